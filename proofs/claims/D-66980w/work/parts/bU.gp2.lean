/-! ===== well-formed trees: operators, primaries ===== -/
section gp3
variable {K : Nat → Nat} {V : Nat → Int32} {N : Nat} {lx : Bool}
theorem g1_sr {B : Nat → Bool} {t : tr_} {a b y : Nat} (h : g1_ B t a b) : g1_ B (sr_r y t) a b := by
  obtain ⟨k, i, v, l, rfl, hB, m, h1, h2, h3, h4⟩ := h
  exact ⟨k, i, _, l, rfl, hB, m, h1, h2, h3, h4⟩
theorem kd_sr (t : tr_) (y : Nat) : kd_ (sr_r y t) = kd_ t := by cases t <;> rfl
theorem g1_pa {B : Nat → Bool} {t : tr_} {a b y : Nat} (h : g1_ B t a b) (hy : y ≤ a) : g1_ B (pa_r y t) y b := by
  obtain ⟨k, i, v, l, rfl, hB, m, ⟨h1, h5, h6, h7⟩, h2, h3, h4⟩ := h
  refine ⟨k, i, _, l, rfl, hB, m, ⟨?_, ?_, h6, h7⟩, h2, gw_lb h3 hy, h4⟩
  · show y ≤ (if y < v.2.2.2.1 then y else v.2.2.2.1)
    split <;> omega
  · show (if y < v.2.2.2.1 then y else v.2.2.2.1) ≤ v.1
    split <;> omega
/-- two become one -/
theorem w_32 {m x y p dp nd a : Nat} {R : List gl_} {os : List tr_} {sc : List (Int32 × Nat)} {t t2 : tr_} {σ : ps_} (ht : g1_ isE_ t a y) (ht2 : g1_ isE_ t2 (y + 1) p) (h : pj_fx (pF_ K V N lx) m ((32, x, y, os.length) :: R, t2 :: t :: os, p, dp, sc, nd) = some (.ok σ)) : ∃ t' nd' m', m' < m ∧ g1_ isE_ t' a p ∧ pj_fx (pF_ K V N lx) m' (R, t' :: os, p, dp, sc, nd') = some (.ok σ) := by
  obtain ⟨m1, σ', rfl, e, h⟩ := fz_st K V N lx h
  have e : (if os.length = os.length ∧ y < N then
      (if x = 5 then
        (if kd_ t = 11 ∧ pr_ t = false then (match ap_o (sr_r (K y) t2) t with
          | some t => ok_ (R, t :: os, p, dp, sc, nd)
          | none => none)
        else sf_ 11 y os.length 0 ok_ (R, sr_r (K y) t2 :: t :: os, p, dp, sc, nd))
      else sf_ 9 y os.length (nI (K y)) ok_ (R, t2 :: t :: os, p, dp, sc, nd))
    else none) = some (Except.ok σ') := e
  have l1 := g1_e ht
  have l2 := g1_e ht2
  have cN : os.length = os.length ∧ y < N := by
    by_cases q : os.length = os.length ∧ y < N
    · exact q
    · rw [if_neg q] at e; cases e
  rw [if_pos cN] at e
  by_cases c5 : x = 5
  · rw [if_pos c5] at e
    by_cases c11 : kd_ t = 11 ∧ pr_ t = false
    · rw [if_pos c11] at e
      have hx := g1_sr (y := K y) ht2
      have hkx := g1_kd hx
      generalize sr_r (K y) t2 = u at e hx hkx
      obtain ⟨k, i, v, l, rfl, hB, m, ⟨h5, h6, h7, h8⟩, hs, h3, h4⟩ := ht
      obtain rfl : k = 11 := c11.1
      have hks : ∃ e f r, ks_ l = e :: f :: r ∧ (e :: f :: r).all isE_ = true := by
        unfold shp at hs
        rw [if_neg (by decide)] at hs
        cases hk : ks_ l with
        | nil => rw [hk] at hs; cases hs
        | cons e r =>
          cases r with
          | nil => rw [hk] at hs; cases hs
          | cons f r => rw [hk] at hs; exact ⟨e, f, r, rfl, hs⟩
      obtain ⟨e1, f1, r1, hk1, hk2⟩ := hks
      cases l with
      | leaf => cases hk1
      | inner lk li lv ll lr =>
        cases e
        obtain ⟨k2, i2, v2, l2', hu, hB2, hg2⟩ := hx
        have h4 : m ≤ y := h4
        refine ⟨_, nd, m1, Nat.lt_succ_self _, ⟨11, i, v, _, rfl, rfl, p, ⟨h5, h6, by omega, fun _ _ => by have := h8 (by decide) (by decide); omega⟩, ?_, gw_sn h3 (gw_lb hg2 (by omega)), Nat.le_refl _⟩, h⟩
        have hku : ks_ u = [kd_ u] := by rw [hu]; rfl
        unfold shp
        rw [if_neg (by decide), ks_sn, hk1, hku]
        show ((e1 :: f1 :: r1) ++ [kd_ u]).all isE_ = true
        rw [List.all_append, hk2]
        simp [hkx]
    · rw [if_neg c11] at e
      have e := (sf_app (kk := 11) (tok := y) (a := 0) (f := ok_) (gs := R) (os := os) (p := p) (dp := dp) (sc := sc) (nd := nd) [sr_r (K y) t2, t]).symm.trans e
      cases e
      have hg : gr_ isE_ [t, sr_r (K y) t2] a p := gr_2 ht (g1_lb (g1_sr ht2) (by omega))
      refine ⟨_, _, m1, Nat.lt_succ_self _, g1_st (C := isE_) (by rfl) hg ⟨by omega, by omega⟩ (Nat.le_refl _) ?_, h⟩
      rw [shp_k (by decide) (gr_ks hg).1]
      exact (gr_ks hg).2
  · rw [if_neg c5] at e
    have e := (sf_app (kk := 9) (tok := y) (a := nI (K y)) (f := ok_) (gs := R) (os := os) (p := p) (dp := dp) (sc := sc) (nd := nd) [t2, t]).symm.trans e
    cases e
    have hg : gr_ isE_ [t, t2] a p := gr_2 ht (g1_lb ht2 (by omega))
    refine ⟨_, _, m1, Nat.lt_succ_self _, g1_st (C := isE_) (by rfl) hg ⟨by omega, by omega⟩ (Nat.le_refl _) ?_, h⟩
    rw [shp_k (by decide) (gr_ks hg).1]
    show (isE_ (kd_ t) && isE_ (kd_ t2)) = true
    rw [g1_kd ht, g1_kd ht2]
    rfl
/-- signs of a level -/
theorem w_31 {n : Nat} (ih : ∀ m, m < n → WE_ K V N lx m) (l : Nat) (h1 : 1 ≤ l) (h7 : l ≤ 7) : ST_ K V N lx n (fun z => [(31, l, 0, z)]) isE_ isE_ := by
  intro R os t a p dp sc nd σ ht h
  obtain ⟨m, σ', rfl, e, h⟩ := fz_st K V N lx h
  have e : (if lv_ (K p) = l then ok_ (bl_ l :: (32, l, p, os.length) :: (31, l, 0, os.length) :: R, t :: os, p + 1, dp, sc, nd) else ok_ (R, t :: os, p, dp, sc, nd)) = some (Except.ok σ') := e
  by_cases c : lv_ (K p) = l
  · rw [if_pos c] at e
    cases e
    obtain ⟨t2, p2, dp2, sc2, nd2, m1, hm1, ht2, h⟩ := (ih m (Nat.lt_succ_self _)).2.1 l h7 ((32, l, p, os.length) :: (31, l, 0, os.length) :: R) (t :: os) (p + 1) dp sc nd σ h
    obtain ⟨t3, nd3, m2, hm2, ht3, h⟩ := w_32 ht ht2 h
    obtain ⟨t4, p4, dp4, sc4, nd4, m3, hm3, ht4, h⟩ := (ih m2 (by omega)).2.2.1 l h1 h7 R os t3 a p2 dp2 sc2 nd3 σ ht3 h
    exact ⟨t4, p4, _, _, _, m3, by omega, ht4, h⟩
  · rw [if_neg c] at e
    cases e
    exact ⟨t, p, _, _, _, m, Nat.lt_succ_self _, ht, h⟩
/-- marks ahead -/
theorem w_pre {m y p dp nd : Nat} {R : List gl_} {os : List tr_} {sc : List (Int32 × Nat)} {t : tr_} {σ : ps_} (k : Nat) (hk : k = 7 ∨ k = 8) (ht : g1_ isE_ t (y + 1) p) (h : pj_fx (pF_ K V N lx) m ((6, k, y, os.length) :: R, t :: os, p, dp, sc, nd) = some (.ok σ)) : ∃ t' nd' m', m' < m ∧ g1_ isE_ t' y p ∧ pj_fx (pF_ K V N lx) m' (R, t' :: os, p, dp, sc, nd') = some (.ok σ) := by
  obtain ⟨m1, σ', rfl, e, h⟩ := fz_st K V N lx h
  have e : (if k < 100 ∧ k ≠ 20 then sf_ k y os.length 0 ok_ (R, t :: os, p, dp, sc, nd) else none) = some (Except.ok σ') := e
  rw [if_pos (by omega)] at e
  have e := (sf_app (kk := k) (tok := y) (a := 0) (f := ok_) (gs := R) (os := os) (p := p) (dp := dp) (sc := sc) (nd := nd) [t]).symm.trans e
  cases e
  have l1 := g1_e ht
  have hg : gr_ isE_ [t] y p := gr_1 (g1_lb ht (by omega))
  refine ⟨_, _, m1, Nat.lt_succ_self _, g1_st (C := isE_) (by rcases hk with rfl | rfl <;> rfl) hg ⟨Nat.le_refl _, by omega⟩ (Nat.le_refl _) ?_, h⟩
  rcases hk with rfl | rfl
  · show shp 7 0 (lkT [t]) = true
    rw [shp_k (by decide) (gr_ks hg).1]
    exact g1_kd ht
  · show shp 8 0 (lkT [t]) = true
    rw [shp_k (by decide) (gr_ks hg).1]
    exact g1_kd ht
theorem w_34 {n : Nat} (ih : ∀ m, m < n → WE_ K V N lx m) : SP_ K V N lx n (fun _ => [(34, 0, 0, 0)]) isE_ := by
  intro R os p dp sc nd σ h
  obtain ⟨m, σ', rfl, e, h⟩ := fz_st K V N lx h
  have e : (if K p = 18 ∨ K p = 20 then (if dp = 60 then fl_ p else ok_ ((34, 0, 0, 0) :: (6, (if K p = 18 then 7 else 8), p, os.length) :: (15, dp, 0, 0) :: R, os, p + 1, dp + 1, sc, nd)) else ok_ ((39, 0, 0, 0) :: (37, 0, 0, os.length) :: (35, 0, 0, os.length) :: (15, dp, 0, 0) :: R, os, p, dp, sc, nd)) = some (Except.ok σ') := e
  have fin : ∀ t a q dpx scx ndx k, k < m + 1 → g1_ isE_ t a q → pj_fx (pF_ K V N lx) k ((15, dp, 0, 0) :: R, t :: os, q, dpx, scx, ndx) = some (.ok σ) → ∃ t p' dp' sc' nd' m', m' < m + 1 ∧ g1_ isE_ t a p' ∧ pj_fx (pF_ K V N lx) m' (R, t :: os, p', dp', sc', nd') = some (.ok σ) := fun t a q dpx scx ndx k hm ht h => by
    obtain ⟨m2, σ', rfl, e, h⟩ := fz_st K V N lx h
    have e : some (Except.ok (R, t :: os, q, dp, scx, ndx)) = some (Except.ok σ') := e
    cases e
    exact ⟨t, q, _, _, _, m2, by omega, ht, h⟩
  by_cases c : K p = 18 ∨ K p = 20
  · rw [if_pos c] at e
    by_cases c6 : dp = 60
    · rw [if_pos c6] at e; cases e
    rw [if_neg c6] at e
    cases e
    obtain ⟨t, p1, dp1, sc1, nd1, m1, hm1, ht, h⟩ := (ih m (Nat.lt_succ_self _)).2.2.2.1 ((6, (if K p = 18 then 7 else 8), p, os.length) :: (15, dp, 0, 0) :: R) os (p + 1) (dp + 1) sc nd σ h
    obtain ⟨t2, nd2, m2, hm2, ht2, h⟩ := w_pre _ (by split; exact Or.inl rfl; exact Or.inr rfl) ht h
    exact fin t2 p p1 _ _ _ m2 (by omega) ht2 h
  · rw [if_neg c] at e
    cases e
    obtain ⟨t, p1, dp1, sc1, nd1, m1, hm1, ht, h⟩ := (ih m (Nat.lt_succ_self _)).2.2.2.2.2.2.2.1 ((37, 0, 0, os.length) :: (35, 0, 0, os.length) :: (15, dp, 0, 0) :: R) os p dp sc nd σ h
    obtain ⟨t2, p2, dp2, sc2, nd2, m2, hm2, ht2, h⟩ := (ih m1 (by omega)).2.2.2.2.2.2.1 ((35, 0, 0, os.length) :: (15, dp, 0, 0) :: R) os t p p1 dp1 sc1 nd1 σ ht h
    obtain ⟨t3, p3, dp3, sc3, nd3, m3, hm3, ht3, h⟩ := (ih m2 (by omega)).2.2.2.2.1 ((15, dp, 0, 0) :: R) os t2 p p2 dp2 sc2 nd2 σ ht2 h
    exact fin t3 p p3 _ _ _ m3 (by omega) ht3 h
theorem w_35 {n : Nat} (ih : ∀ m, m < n → WE_ K V N lx m) : ST_ K V N lx n (fun z => [(35, 0, 0, z)]) isE_ isE_ := by
  intro R os t a p dp sc nd σ ht h
  obtain ⟨m, σ', rfl, e, h⟩ := fz_st K V N lx h
  have e : (if K p = 18 ∨ K p = 19 then (if dp = 60 then fl_ p else ok_ ((36, 0, 0, 0) :: (32, 8, p, os.length) :: (35, 0, 0, os.length) :: R, t :: os, p + 1, dp + 1, sc, nd)) else ok_ (R, t :: os, p, dp, sc, nd)) = some (Except.ok σ') := e
  by_cases c : K p = 18 ∨ K p = 19
  · rw [if_pos c] at e
    by_cases c6 : dp = 60
    · rw [if_pos c6] at e; cases e
    rw [if_neg c6] at e
    cases e
    obtain ⟨t2, p2, dp2, sc2, nd2, m1, hm1, ht2, h⟩ := (ih m (Nat.lt_succ_self _)).2.2.2.2.2.1 ((32, 8, p, os.length) :: (35, 0, 0, os.length) :: R) (t :: os) (p + 1) (dp + 1) sc nd σ h
    obtain ⟨t3, nd3, m2, hm2, ht3, h⟩ := w_32 ht ht2 h
    obtain ⟨t4, p4, dp4, sc4, nd4, m3, hm3, ht4, h⟩ := (ih m2 (by omega)).2.2.2.2.1 R os t3 a p2 dp2 sc2 nd3 σ ht3 h
    exact ⟨t4, p4, _, _, _, m3, by omega, ht4, h⟩
  · rw [if_neg c] at e
    cases e
    exact ⟨t, p, _, _, _, m, Nat.lt_succ_self _, ht, h⟩
theorem w_36 {n : Nat} (ih : ∀ m, m < n → WE_ K V N lx m) : SP_ K V N lx n (fun _ => [(36, 0, 0, 0)]) isE_ := by
  intro R os p dp sc nd σ h
  obtain ⟨m, σ', rfl, e, h⟩ := fz_st K V N lx h
  have e : (if K p = 18 ∨ K p = 20 then (if dp = 60 then fl_ p else ok_ ((36, 0, 0, 0) :: (6, (if K p = 18 then 7 else 8), p, os.length) :: R, os, p + 1, dp + 1, sc, nd)) else ok_ ((39, 0, 0, 0) :: (37, 0, 0, os.length) :: R, os, p, dp, sc, nd)) = some (Except.ok σ') := e
  by_cases c : K p = 18 ∨ K p = 20
  · rw [if_pos c] at e
    by_cases c6 : dp = 60
    · rw [if_pos c6] at e; cases e
    rw [if_neg c6] at e
    cases e
    obtain ⟨t, p1, dp1, sc1, nd1, m1, hm1, ht, h⟩ := (ih m (Nat.lt_succ_self _)).2.2.2.2.2.1 ((6, (if K p = 18 then 7 else 8), p, os.length) :: R) os (p + 1) (dp + 1) sc nd σ h
    obtain ⟨t2, nd2, m2, hm2, ht2, h⟩ := w_pre _ (by split; exact Or.inl rfl; exact Or.inr rfl) ht h
    exact ⟨t2, p1, _, _, _, m2, by omega, ht2, h⟩
  · rw [if_neg c] at e
    cases e
    obtain ⟨t, p1, dp1, sc1, nd1, m1, hm1, ht, h⟩ := (ih m (Nat.lt_succ_self _)).2.2.2.2.2.2.2.1 ((37, 0, 0, os.length) :: R) os p dp sc nd σ h
    obtain ⟨t2, p2, dp2, sc2, nd2, m2, hm2, ht2, h⟩ := (ih m1 (by omega)).2.2.2.2.2.2.1 R os t p p1 dp1 sc1 nd1 σ ht h
    exact ⟨t2, p2, _, _, _, m2, by omega, ht2, h⟩
/-- arguments of a call -/
theorem w_38 : ∀ (n : Nat), (∀ m, m < n → WE_ K V N lx m) → ∀ (ts : List tr_) (t : tr_) (a y q : Nat) R os p dp sc nd σ, g1_ isE_ t a y → gr_ isE_ ts q p → y + 1 ≤ q → ts.length ≤ 20 → pj_fx (pF_ K V N lx) n ((38, ts.length, y, os.length) :: R, ts.reverse ++ t :: os, p, dp, sc, nd) = some (.ok σ) → ∃ t' p' dp' sc' nd' m, m < n ∧ g1_ isE_ t' a p' ∧ pj_fx (pF_ K V N lx) m (R, t' :: os, p', dp', sc', nd') = some (.ok σ) := by
  intro n
  induction n using Nat.strongRecOn with
  | _ n ihn =>
  intro ih ts t a y q R os p dp sc nd σ ht hg hq h20 h
  obtain ⟨m, σ', rfl, e, h⟩ := fz_st K V N lx h
  have e : (if K p = 13 then sf_ 6 y os.length (nI ts.length) (fun σ => ok_ (gpT [(37, 0, 0, os.length)] σ)) (R, ts.reverse ++ t :: os, p + 1, dp, sc, nd)
      else if K p = 14 ∧ ts.length ≠ 20 then ok_ ((28, 0, 0, 0) :: (38, ts.length + 1, y, os.length) :: R, ts.reverse ++ t :: os, p + 1, dp, sc, nd)
      else fl_ p) = some (Except.ok σ') := e
  have l1 := g1_e ht
  have l2 := gw_le (gr_lk hg)
  by_cases c : K p = 13
  · rw [if_pos c, show ts.reverse ++ t :: os = (t :: ts).reverse ++ os by simp] at e
    have e := (sf_app (kk := 6) (tok := y) (a := nI ts.length) (f := fun σ => ok_ (gpT [(37, 0, 0, os.length)] σ)) (gs := R) (os := os) (p := p + 1) (dp := dp) (sc := sc) (nd := nd) (t :: ts).reverse).symm.trans e
    rw [List.reverse_reverse] at e
    cases e
    have hg2 : gr_ isE_ (t :: ts) a (p + 1) := by
      refine ⟨y, ht, gr_ub ?_ (Nat.le_succ p)⟩
      cases ts with
      | nil => show y ≤ p; omega
      | cons u r =>
        obtain ⟨m', h1, h2⟩ := hg
        exact ⟨m', g1_lb h1 (by omega), h2⟩
    have h6 : g1_ isE_ (st_ 6 y (nI ts.length) nd (t :: ts)) a (p + 1) := by
      refine g1_st (C := isE_) (by rfl) hg2 ⟨by omega, by omega⟩ (Nat.le_refl _) ?_
      rw [shp_k (by decide) (gr_ks hg2).1]
      show (((t :: ts).map kd_).all isE_ && decide (((t :: ts).map kd_).length ≤ 21)) = true
      rw [(gr_ks hg2).2]
      simp
      omega
    obtain ⟨t2, p2, dp2, sc2, nd2, m2, hm2, ht2, h⟩ := (ih m (Nat.lt_succ_self _)).2.2.2.2.2.2.1 R os _ a (p + 1) dp sc (nd + 1) σ h6 h
    exact ⟨t2, p2, _, _, _, m2, by omega, ht2, h⟩
  · rw [if_neg c] at e
    by_cases c14 : K p = 14 ∧ ts.length ≠ 20
    · rw [if_pos c14] at e
      cases e
      obtain ⟨t2, p2, dp2, sc2, nd2, m1, hm1, ht2, h⟩ := (ih m (Nat.lt_succ_self _)).1 ((38, ts.length + 1, y, os.length) :: R) (ts.reverse ++ t :: os) (p + 1) dp sc nd σ h
      have hg2 : gr_ isE_ (ts ++ [t2]) q p2 := gr_sn hg (g1_lb ht2 (by omega))
      rw [show t2 :: (ts.reverse ++ t :: os) = (ts ++ [t2]).reverse ++ t :: os by simp, show ts.length + 1 = (ts ++ [t2]).length by simp] at h
      obtain ⟨t3, p3, dp3, sc3, nd3, m2, hm2, ht3, h⟩ := ihn m1 (by omega) (fun k hk => ih k (by omega)) (ts ++ [t2]) t a y q R os p2 dp2 sc2 nd2 σ ht hg2 hq (by simp; omega) h
      exact ⟨t3, p3, _, _, _, m2, by omega, ht3, h⟩
    · rw [if_neg c14] at e; cases e
theorem w_37 {n : Nat} (ih : ∀ m, m < n → WE_ K V N lx m) : ST_ K V N lx n (fun z => [(37, 0, 0, z)]) isE_ isE_ := by
  intro R os t a p dp sc nd σ ht h
  obtain ⟨m, σ', rfl, e, h⟩ := fz_st K V N lx h
  have e : (if K p = 12 then
        (if dp = 60 then fl_ p
        else if K (p + 1) = 13 then sf_ 6 p os.length 0 (fun σ => ok_ (gpT [(37, 0, 0, os.length)] σ)) (R, t :: os, p + 2, dp + 1, sc, nd)
        else ok_ ((28, 0, 0, 0) :: (38, 1, p, os.length) :: R, t :: os, p + 1, dp + 1, sc, nd))
      else ok_ (R, t :: os, p, dp, sc, nd)) = some (Except.ok σ') := e
  have l1 := g1_e ht
  by_cases c : K p = 12
  · rw [if_pos c] at e
    by_cases c6 : dp = 60
    · rw [if_pos c6] at e; cases e
    rw [if_neg c6] at e
    by_cases c13 : K (p + 1) = 13
    · rw [if_pos c13] at e
      have e := (sf_app (kk := 6) (tok := p) (a := 0) (f := fun σ => ok_ (gpT [(37, 0, 0, os.length)] σ)) (gs := R) (os := os) (p := p + 2) (dp := dp + 1) (sc := sc) (nd := nd) [t]).symm.trans e
      cases e
      have hg2 : gr_ isE_ [t] a (p + 2) := gr_1 (g1_ub ht (by omega))
      have h6 : g1_ isE_ (st_ 6 p 0 nd [t]) a (p + 2) := by
        refine g1_st (C := isE_) (by rfl) hg2 ⟨by omega, by omega⟩ (Nat.le_refl _) ?_
        rw [shp_k (by decide) (gr_ks hg2).1]
        show (([t].map kd_).all isE_ && decide (([t].map kd_).length ≤ 21)) = true
        rw [(gr_ks hg2).2]
        rfl
      obtain ⟨t2, p2, dp2, sc2, nd2, m2, hm2, ht2, h⟩ := (ih m (Nat.lt_succ_self _)).2.2.2.2.2.2.1 R os _ a (p + 2) (dp + 1) sc (nd + 1) σ h6 h
      exact ⟨t2, p2, _, _, _, m2, by omega, ht2, h⟩
    · rw [if_neg c13] at e
      cases e
      obtain ⟨t2, p2, dp2, sc2, nd2, m1, hm1, ht2, h⟩ := (ih m (Nat.lt_succ_self _)).1 ((38, 1, p, os.length) :: R) (t :: os) (p + 1) (dp + 1) sc nd σ h
      obtain ⟨t3, p3, dp3, sc3, nd3, m2, hm2, ht3, h⟩ := w_38 m1 (fun k hk => ih k (by omega)) [t2] t a p (p + 1) R os p2 dp2 sc2 nd2 σ ht (gr_1 ht2) (Nat.le_refl _) (by simp) h
      exact ⟨t3, p3, _, _, _, m2, by omega, ht3, h⟩
  · rw [if_neg c] at e
    cases e
    exact ⟨t, p, _, _, _, m, Nat.lt_succ_self _, ht, h⟩
/-- entries of a table -/
theorem w_40 : ∀ (n : Nat), (∀ m, m < n → WE_ K V N lx m) → ∀ (ts : List tr_) (y q : Nat) R os p dp sc nd σ, gr_ isE_ ts q p → y + 1 ≤ q → 1 ≤ ts.length → pj_fx (pF_ K V N lx) n ((40, 0, y, os.length) :: R, ts.reverse ++ os, p, dp, sc, nd) = some (.ok σ) → ∃ t' p' dp' sc' nd' m, m < n ∧ g1_ isE_ t' y p' ∧ pj_fx (pF_ K V N lx) m (R, t' :: os, p', dp', sc', nd') = some (.ok σ) := by
  intro n
  induction n using Nat.strongRecOn with
  | _ n ihn =>
  intro ih ts y q R os p dp sc nd σ hg hq h1 h
  obtain ⟨m, σ', rfl, e, h⟩ := fz_st K V N lx h
  have e : (if K p = 14 then ok_ ((28, 0, 0, 0) :: (40, 0, y, os.length) :: R, ts.reverse ++ os, p + 1, dp, sc, nd) else sf_ 5 y os.length 0 ok_ (R, ts.reverse ++ os, p, dp, sc, nd)) = some (Except.ok σ') := e
  have l2 := gw_le (gr_lk hg)
  by_cases c14 : K p = 14
  · rw [if_pos c14] at e
    cases e
    obtain ⟨t2, p2, dp2, sc2, nd2, m1, hm1, ht2, h⟩ := (ih m (Nat.lt_succ_self _)).1 ((40, 0, y, os.length) :: R) (ts.reverse ++ os) (p + 1) dp sc nd σ h
    have hg2 : gr_ isE_ (ts ++ [t2]) q p2 := gr_sn hg (g1_lb ht2 (by omega))
    rw [show t2 :: (ts.reverse ++ os) = (ts ++ [t2]).reverse ++ os by simp] at h
    obtain ⟨t3, p3, dp3, sc3, nd3, m2, hm2, ht3, h⟩ := ihn m1 (by omega) (fun k hk => ih k (by omega)) (ts ++ [t2]) y q R os p2 dp2 sc2 nd2 σ hg2 hq (by simp) h
    exact ⟨t3, p3, _, _, _, m2, by omega, ht3, h⟩
  · rw [if_neg c14] at e
    have e := (sf_app (kk := 5) (tok := y) (a := 0) (f := ok_) (gs := R) (os := os) (p := p) (dp := dp) (sc := sc) (nd := nd) ts.reverse).symm.trans e
    rw [List.reverse_reverse] at e
    cases e
    cases ts with
    | nil => simp at h1
    | cons u r =>
      obtain ⟨m', q1, q2⟩ := hg
      have hg2 : gr_ isE_ (u :: r) y p := ⟨m', g1_lb q1 (by omega), q2⟩
      have z := g1_e q1
      have z2 := gw_le (gr_lk q2)
      refine ⟨_, p, _, _, _, m, Nat.lt_succ_self _, g1_st (C := isE_) (by rfl) hg2 ⟨Nat.le_refl _, by omega⟩ (Nat.le_refl _) ?_, h⟩
      rw [shp_k (by decide) (gr_ks hg2).1]
      exact (gr_ks hg2).2
/-- a primary -/
theorem w_39 {n : Nat} (ih : ∀ m, m < n → WE_ K V N lx m) : SP_ K V N lx n (fun _ => [(39, 0, 0, 0)]) isE_ := by
  intro R os p dp sc nd σ h
  obtain ⟨m, σ', rfl, e, h⟩ := fz_st K V N lx h
  have e : pm_p K V (R, os, p, dp, sc, nd) = some (Except.ok σ') := e
  have lf : ∀ k av, (k = 1 ∨ k = 2 ∨ k = 3) → (some (Except.ok (R, lf_ k p av nd :: os, p + 1, dp, sc, nd + 1)) : pe_) = some (Except.ok σ') → ∃ t p' dp' sc' nd' m', m' < m + 1 ∧ g1_ isE_ t p p' ∧ pj_fx (pF_ K V N lx) m' (R, t :: os, p', dp', sc', nd') = some (.ok σ) := fun k av hk e => by
    cases e
    exact ⟨_, p + 1, _, _, _, m, Nat.lt_succ_self _, g1_lf (by rcases hk with rfl | rfl | rfl <;> rfl) ⟨Nat.le_refl _, Or.inl (Nat.lt_succ_self _)⟩ (by rcases hk with rfl | rfl | rfl <;> rfl), h⟩
  have fin : ∀ t q dpx scx ndx k, k < m → g1_ isE_ t p q → pj_fx (pF_ K V N lx) k ((15, dp, 0, 0) :: R, t :: os, q, dpx, scx, ndx) = some (.ok σ) → ∃ t p' dp' sc' nd' m', m' < m + 1 ∧ g1_ isE_ t p p' ∧ pj_fx (pF_ K V N lx) m' (R, t :: os, p', dp', sc', nd') = some (.ok σ) := fun t q dpx scx ndx k hk ht h => by
    obtain ⟨m2, σ', rfl, e, h⟩ := fz_st K V N lx h
    have e : some (Except.ok (R, t :: os, q, dp, scx, ndx)) = some (Except.ok σ') := e
    cases e
    exact ⟨t, q, _, _, _, m2, by omega, ht, h⟩
  unfold pm_p at e
  dsimp only at e
  by_cases c1 : K p = 1
  · rw [if_pos c1] at e; exact lf 1 _ (by omega) e
  rw [if_neg c1] at e
  by_cases c2 : K p = 2
  · rw [if_pos c2] at e; exact lf 2 _ (by omega) e
  rw [if_neg c2] at e
  by_cases c3 : K p = 4
  · rw [if_pos c3] at e; exact lf 3 _ (by omega) e
  rw [if_neg c3] at e
  by_cases c4 : K p = 74
  · rw [if_pos c4] at e; exact lf 2 _ (by omega) e
  rw [if_neg c4] at e
  by_cases c5 : K p = 75
  · rw [if_pos c5] at e; exact lf 2 _ (by omega) e
  rw [if_neg c5] at e
  by_cases c12 : K p = 12
  · rw [if_pos c12] at e
    by_cases c6 : dp = 60
    · rw [if_pos c6] at e; cases e
    rw [if_neg c6] at e
    cases e
    obtain ⟨t, p1, dp1, sc1, nd1, m1, hm1, ht, h⟩ := (ih m (Nat.lt_succ_self _)).1 ((39, 1, p, dp) :: R) os (p + 1) (dp + 1) sc nd σ h
    obtain ⟨m2, σ', rfl, e, h⟩ := fz_st K V N lx h
    have e : (if K p1 = 13 then some (Except.ok (R, pa_r p t :: os, p1 + 1, dp, sc1, nd1)) else fl_ p1) = some (Except.ok σ') := e
    by_cases c13 : K p1 = 13
    · rw [if_pos c13] at e
      cases e
      exact ⟨_, p1 + 1, _, _, _, m2, by omega, g1_ub (g1_pa ht (by omega)) (Nat.le_succ _), h⟩
    · rw [if_neg c13] at e; cases e
  rw [if_neg c12] at e
  by_cases c76 : K p = 76
  · rw [if_pos c76] at e
    by_cases c6 : dp = 60
    · rw [if_pos c6] at e; cases e
    rw [if_neg c6] at e
    cases e
    obtain ⟨t, p1, dp1, sc1, nd1, m1, hm1, ht, h⟩ := (ih m (Nat.lt_succ_self _)).2.2.2.2.2.2.2.2 ((6, 4, p, os.length) :: (15, dp, 0, 0) :: R) os (p + 1) (dp + 1) sc nd σ h
    obtain ⟨m2, σ', rfl, e, h⟩ := fz_st K V N lx h
    have e : sf_ 4 p os.length 0 ok_ ((15, dp, 0, 0) :: R, t :: os, p1, dp1, sc1, nd1) = some (Except.ok σ') := e
    have e := (sf_app (kk := 4) (tok := p) (a := 0) (f := ok_) (gs := (15, dp, 0, 0) :: R) (os := os) (p := p1) (dp := dp1) (sc := sc1) (nd := nd1) [t]).symm.trans e
    cases e
    have l1 : p + 1 ≤ p1 := by obtain ⟨_, _, _, _, _, _, q⟩ := ht; exact gw_le q
    have hg : gr_ isC_ [t] p p1 := gr_1 (g1_lb ht (by omega))
    refine fin _ p1 _ _ _ m2 (by omega) (g1_st (C := isC_) (by rfl) hg ⟨Nat.le_refl _, by omega⟩ (Nat.le_refl _) ?_) h
    rw [shp_k (by decide) (gr_ks hg).1]
    exact g1_kd ht
  rw [if_neg c76] at e
  by_cases c77 : K p = 77
  · rw [if_pos c77] at e
    by_cases c6 : dp = 60
    · rw [if_pos c6] at e; cases e
    rw [if_neg c6] at e
    cases e
    obtain ⟨t, p1, dp1, sc1, nd1, m1, hm1, ht, h⟩ := (ih m (Nat.lt_succ_self _)).1 ((40, 0, p, os.length) :: (15, dp, 0, 0) :: R) os (p + 1) (dp + 1) sc nd σ h
    obtain ⟨t3, p3, dp3, sc3, nd3, m2, hm2, ht3, h⟩ := w_40 m1 (fun k hk => ih k (by omega)) [t] p (p + 1) ((15, dp, 0, 0) :: R) os p1 dp1 sc1 nd1 σ (gr_1 ht) (Nat.le_refl _) (by simp) h
    exact fin t3 p3 _ _ _ m2 (by omega) ht3 h
  rw [if_neg c77] at e
  cases e
end gp3
