/-! ===== labels, rows of relations, pairs of an assignment, ( ) ===== -/
section PRbin
variable {K : Nat → Nat} {V : Nat → Int32} {N : Nat} {lx : Bool} {s : mm_S} {gs : List gl_} {os : List tr_} {p dp n : Nat} {sc : List (Int32 × Nat)} {r : pe_}
theorem q_labels0 {d : Nat} {k : mm_S → mm_O} : ∀ m (s : mm_S) (os : List tr_) (p n : Nat), PR K V N lx s (gs, os, p, dp, sc, n) → N ≤ p + 2 * m → n + (N - p) < 26000 → p ≤ N →
    (∀ s1, PR K V N lx s1 (lb_ K V m (gs, os, p, dp, sc, n)) → pq_ K V N lx r (k s1)) → pq_ K V N lx r (mm_bV (mJ (d + 3) 38 0 [vr_ (some 0)] [] s) k) := by
  intro m
  induction m with
  | zero =>
    intro s os p n h hm hn hp hk
    rw [mj_labels_0, m_tk (d + 1) h]
    have e : K p = 0 := h.1.2.2.2.2.1 p (by omega)
    simp only [mm_bI, e]
    rw [if_neg (by decide)]
    exact hk s h
  | succ m ih =>
    intro s os p n h hm hn hp hk
    have t2 := h.1.2.1
    rw [mj_labels_0, m_tk (d + 1) h]
    simp only [mm_bI, neq1_ 1 (PT_k h.1 p) (by decide)]
    unfold lb_ at hk
    by_cases h1 : K p = 1
    · have hpN := PT_lt h.1 h1 (by decide)
      rw [if_pos h1]
      have etn : mE (d + 2) 26 [vr_ (some 0)] s = some (some (vi_ (nI (K (p + 1)))), s) := by
        obtain ⟨⟨t1, t2, t3, t4, t5, t6⟩, ⟨a1, a2, a3, a4, a5, a6⟩, b, hG, c, o⟩ := h
        rw [me_tkNext, a3, t1, nI_1]
        simp only [nlt_ (show p + 1 < 2 ^ 31 by omega) (show N < 2 ^ 31 by omega)]
        by_cases hp : p + 1 < N
        · rw [if_pos hp, mm_a_n (by omega) (by decide), Option.bind_some, (t3 _ hp).1]
        · rw [if_neg hp, t5 _ (show N ≤ p + 1 by omega)]
          rfl
      rw [etn]
      simp only [neq1_ 17 (PT_k h.1 (p + 1)) (by decide)]
      by_cases h2 : K (p + 1) = 17
      · have hpN2 := PT_lt h.1 h2 (by decide)
        rw [if_pos h2, h.2.1.2.2.1, mm_a_n (by omega) (by decide), Option.bind_some, (h.1.2.2.1 p hpN).2]
        rw [if_pos ⟨h1, h2⟩] at hk
        have e2 : ∀ o : mm_O, mm_bV (mm_bV o fun s6 => mJ (d + 3) 38 0 [vr_ (some 0)] [] (mm_u s6 0 43 (s6 0 43 + 2))) k = mm_bV o fun s6 => mm_bV (mJ (d + 3) 38 0 [vr_ (some 0)] [] (mm_u s6 0 43 (s6 0 43 + 2))) k := fun o => by
          unfold mm_bV
          cases o with
          | none => rfl
          | some x =>
            obtain ⟨a, b⟩ := x
            cases a <;> rfl
        rw [e2]
        refine q_leaf (d := d) 42 p (V p) h (by omega) (by decide) (by omega) fun s1 q => ?_
        rw [q.2.1.2.2.1, show (nI p + 2 : Int32) = nI (p + 2) from nI_add p 2]
        exact ih _ _ (p + 2) (n + 1) (PR_p q (p + 2) (by omega)) (by omega) (by omega) (by omega) hk
      · rw [if_neg h2]
        rw [if_neg (by omega)] at hk
        exact hk s h
    · rw [if_neg h1]
      rw [if_neg (by omega)] at hk
      exact hk s h
theorem q_labels {d : Nat} {x : Int32} {k : mm_S → mm_O} (h : PR K V N lx s (gs, os, p, dp, sc, n)) (hn : n + (N - p) < 26000) (hp : p ≤ N) (hk : ∀ s1, PR K V N lx s1 (lb_ K V N (gs, os, p, dp, sc, n)) → pq_ K V N lx r (k s1)) : pq_ K V N lx r (mm_bV (mE (d + 3) 38 [vr_ (some 0), vi_ x] s) k) := by
  have e : mE (d + 3) 38 [vr_ (some 0), vi_ x] s = mJ (d + 3) 38 0 [vr_ (some 0)] [] s := by rw [me_labels, mj_labels_0]
  rw [e]
  exact q_labels0 N s os p n h (by omega) hn hp hk
/-- fields of the root of the last one change -/
theorem PO_root {s s' : mm_S} {k i : Nat} {v v' : Nat × Int32 × Nat × Nat × Bool} {l : tr_} {n : Nat} (h : PO s ((.inner k i v l .leaf : tr_) :: os) n) (hf : ∀ f j, 25 ≤ f → f ≤ 36 → ¬ ((f = 29 ∨ 33 ≤ f ∧ f ≤ 35) ∧ j = i) → s' f j = s f j)
    (h1 : v'.1 = v.1) (h2 : k = 20 → v'.2.1 = v.2.1) (h29 : s' 29 i = v'.2.1) (h33 : s' 33 i = nI v'.2.2.1) (h34 : s' 34 i = nI v'.2.2.2.1) (h35 : s' 35 i = zb_ v'.2.2.2.2) (b1 : v'.2.2.1 < 2 ^ 31) (b2 : v'.2.2.2.1 < 2 ^ 31) : PO s' ((.inner k i v' l .leaf : tr_) :: os) n := by
  obtain ⟨lo, a, b, c, e, nd, h⟩ := h
  obtain ⟨r1, r2, ⟨e1, e2, e3, e4, e5, e6, e7, e8⟩, rp, rl, rr⟩ := e
  have nd' := nd
  rw [ix_, List.nodup_cons] at nd'
  have hil : ∀ j, j ∈ ix_ l → j ≠ i := fun j hj e => nd'.1 (e ▸ List.mem_append_left _ hj)
  refine ⟨lo, a, ?_, ⟨k, i, v', l, rfl⟩, ⟨r1, ⟨r2.1, by rw [h1]; exact r2.2.1, b1, b2⟩, ⟨?_, ?_, ?_, ?_, h29, h33, h34, h35⟩, fun hk => ?_, Rp_fr (fun f j x y z => hf f j x (by omega) (by have := hil j z; omega)) rl, trivial⟩, nd, PO_fr (fun j hj => hf _ _ (by omega) (by omega) (by omega)) (fun f j x y z => hf f j x (by omega) (by omega)) h⟩
  · rw [hf _ _ (by omega) (by omega) (by omega), b]; rfl
  · rw [hf _ _ (by omega) (by omega) (by omega), e1]
  · rw [hf _ _ (by omega) (by omega) (by omega), e2, h1]
  · rw [hf _ _ (by omega) (by omega) (by omega), e3]
  · rw [hf _ _ (by omega) (by omega) (by omega), e4]
  · obtain ⟨m, m1, m2, m3, m4⟩ := rp hk
    exact ⟨m, m1, by rw [h2 hk]; exact m2, m3, fun j x y hj hx hy => (hf _ _ (by omega) (by omega) (by omega)).trans (m4 j x y hj hx hy)⟩
theorem PR_root {s s' : mm_S} {k i : Nat} {v v' : Nat × Int32 × Nat × Nat × Bool} {l : tr_} {n : Nat} (h : PR K V N lx s (gs, (.inner k i v l .leaf : tr_) :: os, p, dp, sc, n)) (hf : ∀ f j, ¬ ((f = 29 ∨ 33 ≤ f ∧ f ≤ 35) ∧ j = i) → s' f j = s f j)
    (h1 : v'.1 = v.1) (h2 : k = 20 → v'.2.1 = v.2.1) (h29 : s' 29 i = v'.2.1) (h33 : s' 33 i = nI v'.2.2.1) (h34 : s' 34 i = nI v'.2.2.2.1) (h35 : s' 35 i = zb_ v'.2.2.2.2) (b1 : v'.2.2.1 < 2 ^ 31) (b2 : v'.2.2.2.1 < 2 ^ 31) : PR K V N lx s' (gs, (.inner k i v' l .leaf : tr_) :: os, p, dp, sc, n) := by
  obtain ⟨t, ⟨a1, a2, a3, a4, a5, a6⟩, b, hG, c, o⟩ := h
  refine ⟨PT_fr t (hf _ _ (by omega)) (hf _ _ (by omega)) (funext fun j => hf _ _ (by omega)) (funext fun j => hf _ _ (by omega)), ⟨?_, ?_, ?_, ?_, ?_, ?_⟩, b, PG_fr (fun f j _ _ _ => hf _ _ (by omega)) hG, PX_fr (fun f j _ _ _ => hf _ _ (by omega)) c, PO_root o (fun f j _ _ z => hf _ _ z) h1 h2 h29 h33 h34 h35 b1 b2⟩
  · exact (hf _ _ (by omega)).trans a1
  · exact (hf _ _ (by omega)).trans a2
  · exact (hf _ _ (by omega)).trans a3
  · exact (hf _ _ (by omega)).trans a4
  · exact (hf _ _ (by omega)).trans a5
  · exact (hf _ _ (by omega)).trans a6
theorem m_bin_70 (d : Nat) (x3 : Nat) (x5 : Int32) {lo hi : Nat} (hh : hi < 26000) : ∀ t : tr_, t ≠ .leaf → Rp s lo hi t → mJ (d + 1) 44 70 [vr_ (some 0), vi_ (nI x3), vi_ x5, vi_ (rt_ t)] [] s = some (none, mm_u (mm_u s 28 (la_ t) x5) 0 37 (nI (x3 + 1)))
  | .leaf, h, _ => absurd rfl h
  | .inner k i v l .leaf, _, h => by
    obtain ⟨h1, h2, ⟨e1, e2, e3, e4, e5, e6, e7, e8⟩, hp, hl, hr⟩ := h
    show mJ (d + 1) 44 70 [vr_ (some 0), vi_ (nI x3), vi_ x5, vi_ (nI i)] [] s = _
    rw [mj_binary_70, mm_a_n (by omega) (by decide), Option.bind_some, e4, if_pos (by decide), mm_w_n (by omega) (by decide), Option.bind_some, nI_1]
    rfl
  | .inner a b c e (.inner k i v l r), _, h => by
    obtain ⟨h1, h2, ⟨e1, e2, e3, e4, e5, e6, e7, e8⟩, hp, hl, hr⟩ := h
    show mJ (d + 1) 44 70 [vr_ (some 0), vi_ (nI x3), vi_ x5, vi_ (nI b)] [] s = _
    have hi2 := hr.1
    have e4 : s 28 b = nI i := e4
    rw [mj_binary_70, mm_a_n (by omega) (by decide), Option.bind_some, e4, if_neg (nI_pos (by omega)), Option.bind_some]
    exact m_bin_70 d x3 x5 hh (.inner k i v l r) (by simp) hr
theorem sf_pos {k tok base : Nat} {a : Int32} {f : ps_ → pe_} (hb : base ≤ os.length) : sf_ k tok base a f (gs, os, p, dp, sc, n) = f (sh_ k tok base a (gs, os, p, dp, sc, n)) := if_pos hb
theorem q_bin {d x y z : Nat} {k : mm_S → mm_O} (h : PR K V N lx s (gs, os, p, dp, sc, n)) (hn : n < 26000) (hx : x < 2 ^ 31) (hk : ∀ σ s1, PR K V N lx s1 σ → pq_ K V N lx (ok_ σ) (k s1)) :
    pq_ K V N lx (bn_ K N x y z (gs, os, p, dp, sc, n)) (mm_bV (mE (d + 3) 44 [vr_ (some 0), vi_ (nI x), vi_ (nI y), vi_ (nI z)] s) k) := by
  have t2 := h.1.2.1
  match os, h with
  | [], h => trivial
  | [_], h => trivial
  | tr :: tl :: os, h =>
    dsimp only [bn_]
    by_cases hz : z = os.length ∧ y < N
    · rw [if_pos hz]
      obtain ⟨rfl, hy⟩ := hz
      have hol := PO_len h.2.2.2.2.2
      simp only [List.length_cons] at hol
      have ky := (h.1.2.2.1 y hy).1
      have h36 := h.2.2.2.2.2
      obtain ⟨lo1, _, o1, ⟨rk, ri, rv, rl, rfl⟩, rR, rN, lo2, _, o2, ⟨lk, li, lv, ll, rfl⟩, lR, lN, po⟩ := h36
      have hri := rR.1
      have hli := lR.1
      have o1 : s 36 (os.length + 1) = nI ri := o1
      have o2 : s 36 os.length = nI li := o2
      have h37 : s 0 37 = nI (os.length + 2) := h.2.1.2.1
      rw [me_binary, mm_a_n (by omega) (by decide), Option.bind_some, o2]
      simp only [neq1_ 5 hx (by decide)]
      by_cases h5 : x = 5
      · rw [if_pos h5, if_pos h5, h37, show (nI (os.length + 2) - 1 : Int32) = nI (os.length + 1) from nI_pred _, mm_a_n (by omega) (by decide), Option.bind_some, o1, mm_a_n (by omega) (by decide), Option.bind_some, ky, mm_w_n (by omega) (by decide), Option.bind_some]
        have hR := PR_root (s' := mm_u s 33 ri (nI (K y))) (v' := (rv.1, rv.2.1, K y, rv.2.2.2.1, rv.2.2.2.2)) h (fun f j hh => mu_n (by omega)) rfl (fun _ => rfl) ((mu_n (by omega)).trans rR.2.2.1.2.2.2.2.1) mu_s ((mu_n (by omega)).trans rR.2.2.1.2.2.2.2.2.2.1) ((mu_n (by omega)).trans rR.2.2.1.2.2.2.2.2.2.2) (PT_k h.1 y) rR.2.1.2.2.2
        have e25 : mm_u s 33 ri (nI (K y)) 25 li = nI lk := (mu_n (by omega)).trans lR.2.2.1.1
        have e35 : mm_u s 33 ri (nI (K y)) 35 li = zb_ lv.2.2.2.2 := (mu_n (by omega)).trans lR.2.2.1.2.2.2.2.2.2.2
        have e27 : mm_u s 33 ri (nI (K y)) 27 li = rt_ ll := (mu_n (by omega)).trans lR.2.2.1.2.2.1
        have hlk := lR.2.1.1
        rw [mm_a_n (by omega) (by decide), Option.bind_some, e25]
        simp only [neq1_ 11 (show lk < 2 ^ 31 by omega) (by decide)]
        have shutcase : pq_ K V N lx (ok_ (sh_ 11 y os.length 0 (gs, sr_r (K y) (.inner rk ri rv rl .leaf) :: (.inner lk li lv ll .leaf : tr_) :: os, p, dp, sc, n))) (mm_bV (mm_bI (mE (d + 2) 22 [vr_ (some 0), vi_ 11, vi_ (nI y), vi_ (nI os.length), vi_ 0] (mm_u s 33 ri (nI (K y)))) fun v9 s8 => some (none, s8)) k) := by
          obtain ⟨s', lo0, e, _⟩ := m_shut d 11 y os.length 0 hR hn (by decide) (by omega) (by simp only [List.length_cons]; omega)
          have q := q_shut (d := d) (kk := fun v9 s8 => mm_bV (some (none, s8)) k) 11 y os.length 0 hR hn (by decide) (by omega) (by simp only [List.length_cons]; omega) fun s1 q _ => hk _ s1 q
          have e : mE (d + 2) 22 [vr_ (some 0), vi_ 11, vi_ (nI y), vi_ (nI os.length), vi_ 0] (mm_u s 33 ri (nI (K y))) = _ := e
          have q : pq_ K V N lx _ (mm_bI (mE (d + 2) 22 [vr_ (some 0), vi_ 11, vi_ (nI y), vi_ (nI os.length), vi_ 0] (mm_u s 33 ri (nI (K y)))) _) := q
          rw [e] at q ⊢
          exact q
        by_cases hl : lk = 11
        · rw [if_pos hl, mm_a_n (by omega) (by decide), Option.bind_some, e35]
          simp only [zb_0]
          by_cases hp : lv.2.2.2.2 = false
          · rw [if_pos hp, if_pos ⟨hl, hp⟩, mm_a_n (by omega) (by decide), Option.bind_some, e27]
            cases ll with
            | leaf => trivial
            | inner ck ci cv cl cr =>
              have lR2 := hR.2.2.2.2.2
              obtain ⟨lo1, w1, o1', _, rR, rN, lo2, w2, o2', _, lR, lN, po⟩ := lR2
              have lRc : Rp (mm_u s 33 ri (nI (K y))) lo2 lo1 (.inner ck ci cv cl cr : tr_) := lR.2.2.2.2.1
              have nlt : (Std.DTreeMap.Internal.Impl.inner ck ci cv cl cr : tr_) ≠ .leaf := by simp
              have lal := Rp_ix lRc _ (la_ix nlt)
              have lN' := lN
              rw [ix_, List.nodup_cons, show ix_ (.leaf : tr_) = [] from rfl, List.append_nil] at lN'
              generalize hC : (Std.DTreeMap.Internal.Impl.inner ck ci cv cl cr : tr_) = C at *
              rw [m_bin_70 (d + 2) os.length (nI ri) (show lo1 < 26000 by omega) C nlt lRc]
              show pq_ K V N lx (match ap_o _ _ with | some t => _ | none => _) _
              have eap : ap_o (sr_r (K y) (.inner rk ri rv rl .leaf)) (.inner lk li lv C .leaf) = some (.inner lk li lv (sn_ C (.inner rk ri (rv.1, rv.2.1, K y, rv.2.2.2.1, rv.2.2.2.2) rl .leaf)) .leaf) := by rw [← hC]; rfl
              rw [eap]
              obtain ⟨t, ⟨a1, a2, a3, a4, a5, a6⟩, b, hG, c, o⟩ := hR
              generalize mm_u s 33 ri (nI (K y)) = s2 at *
              have go : ∀ f j, ¬ (f = 0 ∧ j = 37) → ¬ (f = 28 ∧ j = la_ C) → mm_u (mm_u s2 28 (la_ C) (nI ri)) 0 37 (nI (os.length + 1)) f j = s2 f j := fun f j x y => by rw [mu_n x, mu_n y]
              have hli2 := lR.1
              have hne : la_ C ≠ li := fun e => lN'.1 (e ▸ la_ix nlt)
              have sn := Rp_sn rR (by omega) (by omega) nlt lRc lN'.2
              have sn' : Rp (mm_u (mm_u s2 28 (la_ C) (nI ri)) 0 37 (nI (os.length + 1))) lo2 n (sn_ C (.inner rk ri (rv.1, rv.2.1, K y, rv.2.2.2.1, rv.2.2.2.2) rl .leaf)) := Rp_fr (fun f j x _ _ => mu_n (by omega)) sn
              refine hk _ _ ⟨PT_fr t (go _ _ (by omega) (by omega)) (go _ _ (by omega) (by omega)) (funext fun j => go _ _ (by omega) (by omega)) (funext fun j => go _ _ (by omega) (by omega)), ⟨?_, mu_s, ?_, ?_, ?_, ?_⟩, b, PG_fr (fun f j _ _ _ => go _ _ (by omega) (by omega)) hG, PX_fr (fun f j _ _ _ => go _ _ (by omega) (by omega)) c, lo2, by omega, ?_, ⟨_, _, _, _, rfl⟩, ?_, ?_, PO_fr (fun j _ => go _ _ (by omega) (by omega)) (fun f j _ _ _ => go _ _ (by omega) (by omega)) po⟩
              · exact (go _ _ (by omega) (by omega)).trans a1
              · exact (go _ _ (by omega) (by omega)).trans a3
              · exact (go _ _ (by omega) (by omega)).trans a4
              · exact (go _ _ (by omega) (by omega)).trans a5
              · exact (go _ _ (by omega) (by omega)).trans a6
              · rw [go _ _ (by omega) (by omega)]; exact o2'
              · obtain ⟨r1, r2, ⟨e1, e2, e3, e4, e5, e6, e7, e8⟩, rp, rl', rr⟩ := lR
                refine ⟨⟨r1.1, by omega⟩, r2, ⟨?_, ?_, ?_, ?_, ?_, ?_, ?_, ?_⟩, fun e => by omega, sn', trivial⟩
                · exact (go _ _ (by omega) (by omega)).trans e1
                · exact (go _ _ (by omega) (by omega)).trans e2
                · rw [go _ _ (by omega) (by omega), e3, rt_sn _ _ nlt]
                · exact (go _ _ (by omega) (by omega)).trans e4
                · exact (go _ _ (by omega) (by omega)).trans e5
                · exact (go _ _ (by omega) (by omega)).trans e6
                · exact (go _ _ (by omega) (by omega)).trans e7
                · exact (go _ _ (by omega) (by omega)).trans e8
              · rw [ix_, show ix_ (.leaf : tr_) = [] from rfl, List.append_nil, List.nodup_cons]
                have pm := ix_sn C (.inner rk ri (rv.1, rv.2.1, K y, rv.2.2.2.1, rv.2.2.2.2) rl .leaf)
                refine ⟨fun hc => ?_, pm.nodup_iff.mpr (List.nodup_append.mpr ⟨lN'.2, rN, fun a ha b hb => ?_⟩)⟩
                · rcases List.mem_append.mp (pm.mem_iff.mp hc) with h | h
                  · exact lN'.1 h
                  · have := Rp_ix rR li h; omega
                · have := Rp_ix lRc a ha
                  have := Rp_ix rR b hb
                  omega
          · rw [if_neg hp, if_neg (by rintro ⟨_, e⟩; exact hp e)]
            rw [sf_pos (by simp only [List.length_cons]; omega)]
            exact shutcase
        · rw [if_neg hl, if_neg (by rintro ⟨e, _⟩; exact hl e), sf_pos (by simp only [List.length_cons]; omega)]
          exact shutcase
      · rw [if_neg h5, if_neg h5, sf_pos (by simp only [List.length_cons]; omega)]
        obtain ⟨s', lo0, e, _⟩ := m_shut d 9 y os.length 0 h hn (by decide) (by omega) (by simp only [List.length_cons]; omega)
        have e : mE (d + 2) 22 [vr_ (some 0), vi_ 9, vi_ (nI y), vi_ (nI os.length), vi_ 0] s = _ := e
        have q := q_shut (r := some (.ok (sh_ 9 y os.length (nI (K y)) (gs, (.inner rk ri rv rl .leaf : tr_) :: (.inner lk li lv ll .leaf : tr_) :: os, p, dp, sc, n)))) (d := d) (kk := fun v9 s8 => mm_bV ((mm_a 12100 9 (nI y) s8).bind fun v14 => (mm_w 26000 29 v9 v14 s8).bind fun s15 => some (none, s15)) k) 9 y os.length 0 h hn (by decide) (by omega) (by simp only [List.length_cons]; omega) fun s1 q _ => by
          have ky := (q.1.2.2.1 y hy).1
          rw [mm_a_n (by omega) (by decide), Option.bind_some, ky, mm_w_n (by omega) (by decide), Option.bind_some]
          refine hk _ _ ?_
          obtain ⟨q1, q2, q3, q4, q5, q6⟩ := q
          have o3 := q6
          obtain ⟨lo, _, _, _, rR, _⟩ := q6
          exact PR_root (s' := mm_u s1 29 n (nI (K y))) ⟨q1, q2, q3, q4, q5, o3⟩ (fun f j hh => mu_n (by omega)) rfl (fun e => by simp at e) mu_s ((mu_n (by omega)).trans rR.2.2.1.2.2.2.2.2.1) ((mu_n (by omega)).trans rR.2.2.1.2.2.2.2.2.2.1) ((mu_n (by omega)).trans rR.2.2.1.2.2.2.2.2.2.2) rR.2.1.2.2.1 rR.2.1.2.2.2
        have q : pq_ K V N lx _ (mm_bI (mE (d + 2) 22 [vr_ (some 0), vi_ 9, vi_ (nI y), vi_ (nI os.length), vi_ 0] s) _) := q
        rw [e] at q ⊢
        exact q
    · rw [if_neg hz]
      trivial
theorem rs_sub : ∀ t : tr_, (rs_r t).Sublist (ix_ t)
  | .leaf => List.Sublist.refl _
  | .inner k i v l r => ((rs_sub r).trans (List.sublist_append_right _ _)).cons₂ i
theorem Rp_32 {lo hi x : Nat} {y : Int32} : ∀ {t : tr_}, Rp s lo hi t → (ix_ t).Nodup → x ∈ rs_r t → Rp (mm_u s 32 x y) lo hi t
  | .leaf, _, _, _ => trivial
  | .inner k i v l r, h, nd, hx => by
    obtain ⟨h1, h2, ⟨e1, e2, e3, e4, e5, e6, e7, e8⟩, hp, hl, hr⟩ := h
    rw [ix_, List.nodup_cons, List.nodup_append] at nd
    obtain ⟨n1, n2, n3, n4⟩ := nd
    simp only [rs_r, List.mem_cons] at hx
    have hxl : x ∉ ix_ l := by
      intro hc
      rcases hx with e | e
      · exact n1 (e ▸ List.mem_append_left _ hc)
      · exact n4 x hc x (rs_ix e) rfl
    have fl : ∀ f j, 25 ≤ f → f ≤ 35 → j ∈ ix_ l → mm_u s 32 x y f j = s f j := fun f j _ _ hj => mu_n (by rintro ⟨_, e⟩; exact hxl (e ▸ hj))
    have g : ∀ f, f ≠ 32 → mm_u s 32 x y f i = s f i := fun f hf => mu_n (by omega)
    refine ⟨h1, h2, ⟨(g _ (by decide)).trans e1, (g _ (by decide)).trans e2, (g _ (by decide)).trans e3, (g _ (by decide)).trans e4, (g _ (by decide)).trans e5, (g _ (by decide)).trans e6, (g _ (by decide)).trans e7, (g _ (by decide)).trans e8⟩, fun hk => ?_, Rp_fr fl hl, ?_⟩
    · obtain ⟨m, m1, m2, m3, m4⟩ := hp hk
      exact ⟨m, m1, m2, m3, fun j a b hj ha hb => (fl _ _ (by omega) (by omega) (rs_ix (List.mem_of_getElem? ha))).trans (m4 j a b hj ha hb)⟩
    · rcases hx with e | e
      · refine Rp_fr (fun f j _ _ hj => mu_n ?_) hr
        rintro ⟨_, e2⟩
        exact n1 (List.mem_append_right _ (e ▸ e2 ▸ hj))
      · exact Rp_32 hr n3 e
/-- a row from its j-th on -/
def dr_r : Nat → tr_ → tr_
  | 0, t => t
  | _ + 1, .leaf => .leaf
  | j + 1, .inner _ _ _ _ r => dr_r j r
theorem dr_leaf : ∀ j, dr_r j .leaf = .leaf
  | 0 => rfl
  | _ + 1 => rfl
theorem dr_at {lo hi : Nat} : ∀ (j : Nat) (t : tr_) (x : Nat), Rp s lo hi t → (rs_r t)[j]? = some x → rt_ (dr_r j t) = nI x ∧ x < hi ∧ s 28 x = rt_ (dr_r (j + 1) t)
  | j, .leaf, x, _, h => by simp [rs_r] at h
  | 0, .inner k i v l r, x, h, hx => by
    simp [rs_r] at hx
    subst hx
    exact ⟨rfl, h.1.2, h.2.2.1.2.2.2.1⟩
  | j + 1, .inner k i v l r, x, h, hx => by
    simp only [rs_r, List.getElem?_cons_succ] at hx
    exact dr_at j r x h.2.2.2.2.2 hx
theorem m_pairs_9 (d i m : Nat) {lo hi : Nat} {t : tr_} (h : Rp s lo hi t) (hh : hi ≤ 26000) (hi2 : i < 26000) (hm : m < 2 ^ 31) (hl : m ≤ (rs_r t).length) (e29 : s 29 i = nI m) (e27 : s 27 i = rt_ t) : ∀ u j, j + u = m → mJ (d + 1) 23 9 [vr_ (some 0), vi_ (nI i), vi_ (rt_ (dr_r j t)), vi_ (nI j)] [] s = mJ (d + 1) 23 42 [vr_ (some 0), vi_ (nI i), vi_ (rt_ (dr_r m t)), vi_ (rt_ t), vi_ (nI 0)] [] s := by
  intro u
  induction u with
  | zero =>
    intro j hj
    obtain rfl : j = m := by omega
    rw [mj_pairs_9, mm_a_n (by omega) (by decide), Option.bind_some, e29, if_neg (nI_nlt (Nat.le_refl _) (by omega)), mm_a_n (by omega) (by decide), Option.bind_some, e27]
    rfl
  | succ u ih =>
    intro j hj
    obtain ⟨w1, w2, w3⟩ := dr_at j t _ h (List.getElem?_eq_getElem (show j < (rs_r t).length by omega))
    rw [mj_pairs_9, mm_a_n (by omega) (by decide), Option.bind_some, e29, if_pos (nI_lt (by omega) (by omega)), w1, mm_a_n (by omega) (by decide), Option.bind_some, w3, nI_1]
    exact ih (j + 1) (by omega)
theorem m_pairs_42 (d i m : Nat) {lo hi : Nat} {t : tr_} (hh : hi ≤ 26000) (hi2 : i < 26000) (hm : m < 2 ^ 31) (hl : (rs_r t).length = 2 * m) (nd : (ix_ t).Nodup) : ∀ u j (s : mm_S), Rp s lo hi t → s 29 i = nI m → j + u = m → (∀ q x y, q < j → (rs_r t)[q]? = some x → (rs_r t)[m + q]? = some y → s 32 x = nI y) →
    ∃ s', mJ (d + 1) 23 42 [vr_ (some 0), vi_ (nI i), vi_ (rt_ (dr_r (m + j) t)), vi_ (rt_ (dr_r j t)), vi_ (nI j)] [] s = some (none, s') ∧ (∀ f x, f ≠ 32 → s' f x = s f x) ∧ (∀ x, hi ≤ x → s' 32 x = s 32 x) ∧ (∀ x, x < lo → s' 32 x = s 32 x) ∧ pw_ s' m t ∧ Rp s' lo hi t := by
  intro u
  induction u with
  | zero =>
    intro j s h e29 hj hq
    obtain rfl : j = m := by omega
    rw [mj_pairs_42, mm_a_n (by omega) (by decide), Option.bind_some, e29, if_neg (nI_nlt (Nat.le_refl _) (by omega))]
    exact ⟨s, rfl, fun _ _ _ => rfl, fun _ _ => rfl, fun _ _ => rfl, fun q x y a b c => hq q x y a b c, h⟩
  | succ u ih =>
    intro j s h e29 hj hq
    have j1 : j < (rs_r t).length := by omega
    have j2 : m + j < (rs_r t).length := by omega
    obtain ⟨w1, w2, w3⟩ := dr_at j t _ h (List.getElem?_eq_getElem j1)
    obtain ⟨v1, v2, v3⟩ := dr_at (m + j) t _ h (List.getElem?_eq_getElem j2)
    have wlo := (Rp_ix h _ (rs_ix (List.getElem_mem j1))).1
    rw [mj_pairs_42, mm_a_n (by omega) (by decide), Option.bind_some, e29, if_pos (nI_lt (by omega) (by omega)), w1, v1, mm_w_n (by omega) (by decide), Option.bind_some]
    generalize hx : (rs_r t)[j] = x at *
    generalize hy : (rs_r t)[m + j] = y at *
    have g1 : (rs_r t)[j]? = some x := by rw [List.getElem?_eq_getElem j1, hx]
    have g2 : (rs_r t)[m + j]? = some y := by rw [List.getElem?_eq_getElem j2, hy]
    have f1 : ∀ f z, f ≠ 32 → mm_u s 32 x (nI y) f z = s f z := fun f z hf => mu_n (by omega)
    rw [mm_a_n (by omega) (by decide), Option.bind_some, f1 _ _ (by decide), w3, mm_a_n (by omega) (by decide), Option.bind_some, f1 _ _ (by decide), v3, nI_1]
    have h' : Rp (mm_u s 32 x (nI y)) lo hi t := Rp_32 h nd (List.mem_of_getElem? g1)
    obtain ⟨s', e1, e2, e3, e4, e5⟩ := ih (j + 1) _ h' ((f1 _ _ (by decide)).trans e29) (by omega) (fun q a b hqj ha hb => by
      by_cases e : q = j
      · subst e
        rw [g1] at ha; rw [g2] at hb
        cases ha; cases hb
        exact mu_s
      · have : a ≠ x := by
          intro hax
          subst hax
          have := (List.getElem?_inj (show q < (rs_r t).length by omega) (nd.sublist (rs_sub t))).mp (ha.trans g1.symm)
          exact e this
        rw [mu_n (by rintro ⟨_, e⟩; exact this e)]
        exact hq q a b (by omega) ha hb)
    exact ⟨s', e1, fun f z hf => (e2 f z hf).trans (f1 f z hf), fun z hz => (e3 z hz).trans (mu_n (by omega)), fun z hz => (e4 z hz).trans (mu_n (by omega)), e5⟩
end PRbin
