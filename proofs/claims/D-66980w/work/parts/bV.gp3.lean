/-! ===== well-formed trees: commands ===== -/
def isL_ (k : Nat) : Bool := decide (50 ≤ k) && decide (k ≤ 53)
def tt_ : Nat → Bool := fun _ => true
section gp4
variable {K : Nat → Nat} {V : Nat → Int32} {N : Nat} {lx : Bool}
def WA_ (K : Nat → Nat) (V : Nat → Int32) (N : Nat) (lx : Bool) (n : Nat) : Prop := WE_ K V N lx n ∧ ∀ y, SP_ K V N lx n (fun _ => [(3, y, 0, 0)]) isL_
theorem g1_t {B : Nat → Bool} {t : tr_} {a b : Nat} (h : g1_ B t a b) : g1_ tt_ t a b := g1_wk h (fun _ _ => rfl)
theorem g1_le {B : Nat → Bool} {t : tr_} {a b : Nat} (h : g1_ B t a b) : a ≤ b := by obtain ⟨_, _, _, _, _, _, q⟩ := h; exact gw_le q
theorem gr_t {B : Nat → Bool} : ∀ {ts : List tr_} {a b : Nat}, gr_ B ts a b → gr_ tt_ ts a b
  | [], _, _, h => h
  | _ :: _, _, _, ⟨m, h1, h2⟩ => ⟨m, g1_t h1, gr_t h2⟩
theorem gr_app {B : Nat → Bool} : ∀ {ts us : List tr_} {a m b : Nat}, gr_ B ts a m → gr_ B us m b → gr_ B (ts ++ us) a b
  | [], us, a, m, b, h, h2 => by
    cases us with
    | nil => exact Nat.le_trans h h2
    | cons u r => obtain ⟨m', q1, q2⟩ := h2; exact ⟨m', g1_lb q1 h, q2⟩
  | _ :: _, _, _, _, _, ⟨m', h1, h2⟩, h3 => ⟨m', h1, gr_app h2 h3⟩
theorem gr_le {B : Nat → Bool} {ts : List tr_} {a b : Nat} (h : gr_ B ts a b) : a ≤ b := gw_le (gr_lk h)
/-- the last trees become one -/
theorem w_6 {n k y p dp nd a : Nat} {R : List gl_} {os : List tr_} {sc : List (Int32 × Nat)} {B : Nat → Bool} {ts : List tr_} {σ : ps_} (hk : k < 100 ∧ k ≠ 20) (hB : B k = true) (hg : gr_ tt_ ts a p) (hy : a ≤ y ∧ y < p) (hs : shp k 0 (lkT ts) = true) (h : pj_fx (pF_ K V N lx) n ((6, k, y, os.length) :: R, ts.reverse ++ os, p, dp, sc, nd) = some (.ok σ)) : ∃ t' nd' m', m' < n ∧ g1_ B t' a p ∧ kd_ t' = k ∧ pj_fx (pF_ K V N lx) m' (R, t' :: os, p, dp, sc, nd') = some (.ok σ) := by
  obtain ⟨m1, σ', rfl, e, h⟩ := fz_st K V N lx h
  have e : (if k < 100 ∧ k ≠ 20 then sf_ k y os.length 0 ok_ (R, ts.reverse ++ os, p, dp, sc, nd) else none) = some (Except.ok σ') := e
  rw [if_pos hk] at e
  have e := (sf_app (kk := k) (tok := y) (a := 0) (f := ok_) (gs := R) (os := os) (p := p) (dp := dp) (sc := sc) (nd := nd) ts.reverse).symm.trans e
  rw [List.reverse_reverse] at e
  cases e
  exact ⟨_, _, m1, Nat.lt_succ_self _, g1_st hB hg hy (Nat.le_refl _) hs, rfl, h⟩
theorem w_28' {n : Nat} (ih : ∀ m, m < n → WA_ K V N lx m) {m : Nat} (hm : m < n) {R os p dp sc nd σ} (h : pj_fx (pF_ K V N lx) m ((28, 0, 0, 0) :: R, os, p, dp, sc, nd) = some (.ok σ)) : ∃ t p' dp' sc' nd' m', m' < m ∧ g1_ isE_ t p p' ∧ pj_fx (pF_ K V N lx) m' (R, t :: os, p', dp', sc', nd') = some (.ok σ) := (ih m hm).1.1 R os p dp sc nd σ h
theorem w_11' {n : Nat} (ih : ∀ m, m < n → WA_ K V N lx m) {m : Nat} (hm : m < n) {R os p dp sc nd σ} (h : pj_fx (pF_ K V N lx) m ((11, 0, 0, 0) :: R, os, p, dp, sc, nd) = some (.ok σ)) : ∃ t p' dp' sc' nd' m', m' < m ∧ g1_ isC_ t p p' ∧ pj_fx (pF_ K V N lx) m' (R, t :: os, p', dp', sc', nd') = some (.ok σ) := (ih m hm).1.2.2.2.2.2.2.2.2 R os p dp sc nd σ h
/-- a command within another -/
theorem w_14 {n : Nat} (ih : ∀ m, m < n → WA_ K V N lx m) {m : Nat} (hm : m ≤ n) {R os p dp sc nd σ} (h : pj_fx (pF_ K V N lx) m ((14, 0, 0, 0) :: R, os, p, dp, sc, nd) = some (.ok σ)) : ∃ t p' dp' sc' nd' m', m' < m ∧ g1_ isC_ t p p' ∧ pj_fx (pF_ K V N lx) m' (R, t :: os, p', dp', sc', nd') = some (.ok σ) := by
  obtain ⟨m, σ', rfl, e, h⟩ := fz_st K V N lx h
  have e : (if dp = 60 then fl_ p else ok_ ((11, 0, 0, 0) :: (15, dp, 0, 0) :: R, os, p, dp + 1, sc, nd)) = some (Except.ok σ') := e
  by_cases c6 : dp = 60
  · rw [if_pos c6] at e; cases e
  rw [if_neg c6] at e
  cases e
  obtain ⟨t, p1, dp1, sc1, nd1, m1, hm1, ht, h⟩ := w_11' ih (by omega) h
  obtain ⟨m2, σ', rfl, e, h⟩ := fz_st K V N lx h
  have e : some (Except.ok (R, t :: os, p1, dp, sc1, nd1)) = some (Except.ok σ') := e
  cases e
  exact ⟨t, p1, _, _, _, m2, by omega, ht, h⟩
/-- DO -/
theorem w_13 {m : Nat} {R os p dp sc nd σ} (h : pj_fx (pF_ K V N lx) m ((13, 0, 0, 0) :: R, os, p, dp, sc, nd) = some (.ok σ)) : ∃ p' m', m' < m ∧ p ≤ p' ∧ pj_fx (pF_ K V N lx) m' (R, os, p', dp, sc, nd) = some (.ok σ) := by
  obtain ⟨m, σ', rfl, e, h⟩ := fz_st K V N lx h
  have e : (if K p = 48 then ok_ (R, os, p + 1, dp, sc, nd) else if dl_ (K p) = true then ok_ (R, os, p, dp, sc, nd) else fl_ p) = some (Except.ok σ') := e
  by_cases c : K p = 48
  · rw [if_pos c] at e; cases e; exact ⟨p + 1, m, Nat.lt_succ_self _, Nat.le_succ _, h⟩
  rw [if_neg c] at e
  by_cases c : dl_ (K p) = true
  · rw [if_pos c] at e; cases e; exact ⟨p, m, Nat.lt_succ_self _, Nat.le_refl _, h⟩
  rw [if_neg c] at e; cases e
/-- a token that must be there -/
theorem w_16 {m k : Nat} {R os p dp sc nd σ} (h : pj_fx (pF_ K V N lx) m ((16, k, 0, 0) :: R, os, p, dp, sc, nd) = some (.ok σ)) : ∃ m', m' < m ∧ pj_fx (pF_ K V N lx) m' (R, os, p + 1, dp, sc, nd) = some (.ok σ) := by
  obtain ⟨m, σ', rfl, e, h⟩ := fz_st K V N lx h
  have e : (if k = 0 then none else (if K p = k then some (Except.ok (R, os, p + 1, dp, sc, nd)) else fl_ p)) = some (Except.ok σ') := e
  by_cases c0 : k = 0
  · rw [if_pos c0] at e; cases e
  rw [if_neg c0] at e
  by_cases c : K p = k
  · rw [if_pos c] at e; cases e; exact ⟨m, Nat.lt_succ_self _, h⟩
  rw [if_neg c] at e; cases e
/-- REPEATs behind a command -/
theorem w_12 : ∀ (n : Nat), (∀ m, m < n → WA_ K V N lx m) → ∀ (q : Nat) R os t a p dp sc nd σ, g1_ isC_ t a p → pj_fx (pF_ K V N lx) n ((12, q, 0, os.length) :: R, t :: os, p, dp, sc, nd) = some (.ok σ) → ∃ t' p' dp' sc' nd' m, m < n ∧ g1_ isC_ t' a p' ∧ pj_fx (pF_ K V N lx) m (R, t' :: os, p', dp', sc', nd') = some (.ok σ) := by
  intro n
  induction n using Nat.strongRecOn with
  | _ n ihn =>
  intro ih q R os t a p dp sc nd σ ht h
  obtain ⟨m, σ', rfl, e, h⟩ := fz_st K V N lx h
  have e : (if K p = 68 ∨ K p = 69 ∨ K p = 70 then
        (if dp = 60 then fl_ p
        else if K p = 68 then sf_ 38 p os.length 0 ok_ ((12, q, 0, os.length) :: R, t :: os, p + 1, dp + 1, sc, nd)
        else ok_ ((28, 0, 0, 0) :: (6, (if K p = 69 then 39 else 40), p, os.length) :: (12, q, 0, os.length) :: R, t :: os, p + 1, dp + 1, sc, nd))
      else ok_ (R, t :: os, p, q, sc, nd)) = some (Except.ok σ') := e
  have l1 := g1_le ht
  by_cases c : K p = 68 ∨ K p = 69 ∨ K p = 70
  · rw [if_pos c] at e
    by_cases c6 : dp = 60
    · rw [if_pos c6] at e; cases e
    rw [if_neg c6] at e
    by_cases c8 : K p = 68
    · rw [if_pos c8] at e
      have e := (sf_app (kk := 38) (tok := p) (a := 0) (f := ok_) (gs := (12, q, 0, os.length) :: R) (os := os) (p := p + 1) (dp := dp + 1) (sc := sc) (nd := nd) [t]).symm.trans e
      cases e
      have hg := gr_1 (g1_ub ht (Nat.le_succ p))
      have h6 : g1_ isC_ (st_ 38 p 0 nd [t]) a (p + 1) := by
        refine g1_st (C := isC_) (by rfl) hg ⟨by omega, by omega⟩ (Nat.le_refl _) ?_
        rw [shp_k (by decide) (gr_ks hg).1]
        exact g1_kd ht
      obtain ⟨t2, p2, dp2, sc2, nd2, m2, hm2, ht2, h⟩ := ihn m (Nat.lt_succ_self _) (fun k hk => ih k (by omega)) q R os _ a (p + 1) _ _ _ σ h6 h
      exact ⟨t2, p2, _, _, _, m2, by omega, ht2, h⟩
    · rw [if_neg c8] at e
      cases e
      obtain ⟨t2, p2, dp2, sc2, nd2, m1, hm1, ht2, h⟩ := w_28' ih (Nat.lt_succ_self _) h
      have l2 := g1_e ht2
      have hg : gr_ tt_ [t, t2] a p2 := gr_2 (g1_t ht) (g1_t (g1_lb ht2 (Nat.le_succ p)))
      obtain ⟨t3, nd3, m3, hm3, ht3, _, h⟩ := w_6 (B := isC_) (ts := [t, t2]) (k := (if K p = 69 then 39 else 40)) (by split <;> decide) (by split <;> rfl) hg ⟨by omega, by omega⟩ (by
        split
        · rw [shp_k (by decide) (gr_ks hg).1]
          show (isC_ (kd_ t) && isE_ (kd_ t2)) = true
          rw [g1_kd ht, g1_kd ht2]
          rfl
        · rw [shp_k (by decide) (gr_ks hg).1]
          show (isC_ (kd_ t) && isE_ (kd_ t2)) = true
          rw [g1_kd ht, g1_kd ht2]
          rfl) h
      obtain ⟨t4, p4, dp4, sc4, nd4, m4, hm4, ht4, h⟩ := ihn m3 (by omega) (fun k hk => ih k (by omega)) q R os t3 a p2 _ _ _ σ ht3 h
      exact ⟨t4, p4, _, _, _, m4, by omega, ht4, h⟩
  · rw [if_neg c] at e
    cases e
    exact ⟨t, p, _, _, _, m, Nat.lt_succ_self _, ht, h⟩
/-- right sides of an assignment -/
theorem w_27 : ∀ (n : Nat), (∀ m, m < n → WA_ K V N lx m) → ∀ (ls rs : List tr_) (y b : Nat) R os p dp sc nd σ, gr_ isE_ ls y b → gr_ isE_ rs b p → b ≤ p → ls.length < 4096 → 1 ≤ rs.length → rs.length ≤ ls.length → pj_fx (pF_ K V N lx) n ((27, 8192 * ls.length + rs.length, y, os.length) :: R, rs.reverse ++ (ls.reverse ++ os), p, dp, sc, nd) = some (.ok σ) → ∃ t' p' dp' sc' nd' m, m < n ∧ g1_ isC_ t' y p' ∧ pj_fx (pF_ K V N lx) m (R, t' :: os, p', dp', sc', nd') = some (.ok σ) := by
  intro n
  induction n using Nat.strongRecOn with
  | _ n ihn =>
  intro ih ls rs y b R os p dp sc nd σ hl hr hbp h40 h1 h2 h
  obtain ⟨m, σ', rfl, e, h⟩ := fz_st K V N lx h
  have e : (if (8192 * ls.length + rs.length) % 8192 = (8192 * ls.length + rs.length) / 8192 then (if (rs.reverse ++ (ls.reverse ++ os)).length = os.length + 2 * ((8192 * ls.length + rs.length) / 8192) then sf_ 20 y os.length (nI ((8192 * ls.length + rs.length) / 8192)) ok_ (R, rs.reverse ++ (ls.reverse ++ os), p, dp, sc, nd) else none) else (if K p = 14 then some (Except.ok ((28, 0, 0, 0) :: (27, 8192 * ls.length + rs.length + 1, y, os.length) :: R, rs.reverse ++ (ls.reverse ++ os), p + 1, dp, sc, nd)) else fl_ p)) = some (Except.ok σ') := e
  have d1 : (8192 * ls.length + rs.length) / 8192 = ls.length := by omega
  have d2 : (8192 * ls.length + rs.length) % 8192 = rs.length := by omega
  rw [d1, d2] at e
  by_cases c : rs.length = ls.length
  · rw [if_pos c, if_pos (by simp; omega), ← List.append_assoc, ← List.reverse_append] at e
    have e := (sf_app (kk := 20) (tok := y) (a := nI ls.length) (f := ok_) (gs := R) (os := os) (p := p) (dp := dp) (sc := sc) (nd := nd) (ls ++ rs).reverse).symm.trans e
    rw [List.reverse_reverse] at e
    cases e
    have hg : gr_ isE_ (ls ++ rs) y p := gr_app hl hr
    have hy : y < p := by
      cases ls with
      | nil => simp only [List.length_nil] at c; omega
      | cons u r =>
        obtain ⟨m', q1, q2⟩ := hl
        have := g1_e q1
        have := gr_le q2
        omega
    refine ⟨_, p, _, _, _, m, Nat.lt_succ_self _, g1_st (C := isE_) (by rfl) hg ⟨Nat.le_refl _, hy⟩ (Nat.le_refl _) ?_, h⟩
    rw [shp_k (by decide) (gr_ks hg).1]
    cases hk : (ls ++ rs).map kd_ with
    | nil =>
      have := congrArg List.length hk
      rw [List.length_map, List.length_append] at this
      simp only [List.length_nil] at this
      omega
    | cons k r =>
      have hlen : (k :: r).length = 2 * ls.length := by rw [← hk]; simp; omega
      show ((k :: r).all isE_ && (decide (nI ((k :: r).length / 2) = nI ls.length) && decide ((k :: r).length % 2 = 0))) = true
      rw [hlen, ← hk, (gr_ks hg).2, Nat.mul_div_cancel_left _ (by decide : 0 < 2), Nat.mul_mod_right]
      simp
  · rw [if_neg c] at e
    by_cases c14 : K p = 14
    · rw [if_pos c14] at e
      cases e
      obtain ⟨t2, p2, dp2, sc2, nd2, m1, hm1, ht2, h⟩ := w_28' ih (Nat.lt_succ_self _) h
      have l2 := g1_e ht2
      have hr2 : gr_ isE_ (rs ++ [t2]) b p2 := gr_sn hr (g1_lb ht2 (Nat.le_succ p))
      rw [show t2 :: (rs.reverse ++ (ls.reverse ++ os)) = (rs ++ [t2]).reverse ++ (ls.reverse ++ os) by simp, show 8192 * ls.length + rs.length + 1 = 8192 * ls.length + (rs ++ [t2]).length by simp; omega] at h
      obtain ⟨t3, p3, dp3, sc3, nd3, m2, hm2, ht3, h⟩ := ihn m1 (by omega) (fun k hk => ih k (by omega)) ls (rs ++ [t2]) y b R os p2 _ _ _ σ hl hr2 (by omega) h40 (by simp) (by simp; omega) h
      exact ⟨t3, p3, _, _, _, m2, by omega, ht3, h⟩
    · rw [if_neg c14] at e; cases e
/-- left sides of an assignment -/
theorem w_26 : ∀ (n : Nat), (∀ m, m < n → WA_ K V N lx m) → ∀ (ls : List tr_) (y : Nat) R os p dp sc nd σ, gr_ isE_ ls y p → 1 ≤ ls.length → pj_fx (pF_ K V N lx) n ((26, ls.length, y, os.length) :: R, ls.reverse ++ os, p, dp, sc, nd) = some (.ok σ) → ∃ t' p' dp' sc' nd' m, m < n ∧ g1_ isC_ t' y p' ∧ pj_fx (pF_ K V N lx) m (R, t' :: os, p', dp', sc', nd') = some (.ok σ) := by
  intro n
  induction n using Nat.strongRecOn with
  | _ n ihn =>
  intro ih ls y R os p dp sc nd σ hl h1 h
  obtain ⟨m, σ', rfl, e, h⟩ := fz_st K V N lx h
  have e : (if K p = 14 then ok_ ((28, 0, 0, 0) :: (26, ls.length + 1, y, os.length) :: R, ls.reverse ++ os, p + 1, dp, sc, nd) else if 4096 ≤ ls.length then none else (if K p = 16 then some (Except.ok ((28, 0, 0, 0) :: (27, 8192 * ls.length + 1, y, os.length) :: R, ls.reverse ++ os, p + 1, dp, sc, nd)) else fl_ p)) = some (Except.ok σ') := e
  by_cases c14 : K p = 14
  · rw [if_pos c14] at e
    cases e
    obtain ⟨t2, p2, dp2, sc2, nd2, m1, hm1, ht2, h⟩ := w_28' ih (Nat.lt_succ_self _) h
    have hr2 : gr_ isE_ (ls ++ [t2]) y p2 := gr_sn hl (g1_lb ht2 (Nat.le_succ p))
    rw [show t2 :: (ls.reverse ++ os) = (ls ++ [t2]).reverse ++ os by simp, show ls.length + 1 = (ls ++ [t2]).length by simp] at h
    obtain ⟨t3, p3, dp3, sc3, nd3, m2, hm2, ht3, h⟩ := ihn m1 (by omega) (fun k hk => ih k (by omega)) (ls ++ [t2]) y R os p2 _ _ _ σ hr2 (by simp) h
    exact ⟨t3, p3, _, _, _, m2, by omega, ht3, h⟩
  rw [if_neg c14] at e
  by_cases c40 : 4096 ≤ ls.length
  · rw [if_pos c40] at e; cases e
  rw [if_neg c40] at e
  by_cases c16 : K p = 16
  · rw [if_pos c16] at e
    cases e
    obtain ⟨t2, p2, dp2, sc2, nd2, m1, hm1, ht2, h⟩ := w_28' ih (Nat.lt_succ_self _) h
    have l2 := g1_e ht2
    obtain ⟨t3, p3, dp3, sc3, nd3, m2, hm2, ht3, h⟩ := w_27 m1 (fun k hk => ih k (by omega)) ls [t2] y p R os p2 _ _ _ σ hl (gr_1 (g1_lb ht2 (Nat.le_succ p))) (by omega) (by omega) (by simp) (by simpa using h1) h
    exact ⟨t3, p3, _, _, _, m2, by omega, ht3, h⟩
  rw [if_neg c16] at e; cases e
/-- an expression as a command, or an assignment -/
theorem w_25 {n : Nat} (ih : ∀ m, m < n → WA_ K V N lx m) {y : Nat} {R os t p dp sc nd σ} (ht : g1_ isE_ t y p) (h : pj_fx (pF_ K V N lx) n ((25, 0, y, os.length) :: R, t :: os, p, dp, sc, nd) = some (.ok σ)) : ∃ t' p' dp' sc' nd' m, m < n ∧ g1_ isC_ t' y p' ∧ pj_fx (pF_ K V N lx) m (R, t' :: os, p', dp', sc', nd') = some (.ok σ) := by
  obtain ⟨m, σ', rfl, e, h⟩ := fz_st K V N lx h
  have e : (if K p = 14 ∨ K p = 16 then ok_ ((26, 1, y, os.length) :: R, t :: os, p, dp, sc, nd) else (if kd_ t = 6 ∧ pr_ t = false then sf_ 21 y os.length 0 ok_ (R, t :: os, p, dp, sc, nd) else fl_ p)) = some (Except.ok σ') := e
  have l1 := g1_e ht
  by_cases c : K p = 14 ∨ K p = 16
  · rw [if_pos c] at e
    cases e
    obtain ⟨t3, p3, dp3, sc3, nd3, m2, hm2, ht3, h⟩ := w_26 m (fun k hk => ih k (by omega)) [t] y R os p _ _ _ σ (gr_1 ht) (by simp) h
    exact ⟨t3, p3, _, _, _, m2, by omega, ht3, h⟩
  rw [if_neg c] at e
  by_cases c6 : kd_ t = 6 ∧ pr_ t = false
  · rw [if_pos c6] at e
    have e := (sf_app (kk := 21) (tok := y) (a := 0) (f := ok_) (gs := R) (os := os) (p := p) (dp := dp) (sc := sc) (nd := nd) [t]).symm.trans e
    cases e
    have hg := gr_1 ht
    refine ⟨_, p, _, _, _, m, Nat.lt_succ_self _, g1_st (C := isE_) (by rfl) hg ⟨Nat.le_refl _, by omega⟩ (Nat.le_refl _) ?_, h⟩
    rw [shp_k (by decide) (gr_ks hg).1]
    show decide (kd_ t = 6) = true
    simp [c6.1]
  rw [if_neg c6] at e; cases e
/-- labels from the place on -/
theorem lb_e : ∀ (m : Nat) (gs : List gl_) (os : List tr_) (p dp : Nat) (sc : List (Int32 × Nat)) (nd : Nat), ∃ ls nd', lb_ K V m (gs, os, p, dp, sc, nd) = (gs, ls.reverse ++ os, p + 2 * ls.length, dp, sc, nd') ∧ gr_ (fun k => decide (k = 42)) ls p (p + 2 * ls.length)
  | 0, gs, os, p, dp, sc, nd => ⟨[], nd, rfl, Nat.le_refl _⟩
  | m + 1, gs, os, p, dp, sc, nd => by
    show ∃ ls nd', (if K p = 1 ∧ K (p + 1) = 17 then lb_ K V m (gs, lf_ 42 p (V p) nd :: os, p + 2, dp, sc, nd + 1) else (gs, os, p, dp, sc, nd)) = _ ∧ _
    by_cases c : K p = 1 ∧ K (p + 1) = 17
    · rw [if_pos c]
      obtain ⟨ls, nd', e, hg⟩ := lb_e m gs (lf_ 42 p (V p) nd :: os) (p + 2) dp sc (nd + 1)
      refine ⟨lf_ 42 p (V p) nd :: ls, nd', ?_, ⟨p + 2, g1_lf (by rfl) ⟨Nat.le_refl _, Or.inl (by omega)⟩ (by rfl), ?_⟩⟩
      · rw [e]
        simp
        omega
      · rw [show p + 2 * (lf_ 42 p (V p) nd :: ls).length = p + 2 + 2 * ls.length by simp; omega]
        exact hg
    · rw [if_neg c]
      exact ⟨[], nd, rfl, Nat.le_refl _⟩
theorem lbC_42 (cs : Bool) : ∀ {ks : List Nat} {c : Nat}, ks.all (fun k => decide (k = 42)) = true → isC_ c = true → lbC cs (ks ++ [c]) = true
  | [], c, _, h => h
  | k :: r, c, h, hc => by
    simp only [List.all_cons, Bool.and_eq_true, decide_eq_true_eq] at h
    have := lbC_42 cs (ks := r) h.2 hc
    cases r with
    | nil =>
      show ((decide (k = 42) || _) && lbC cs [c]) = true
      rw [h.1]
      simpa using this
    | cons k2 r2 =>
      show ((decide (k = 42) || _) && lbC cs ((k2 :: r2) ++ [c])) = true
      rw [this, h.1]
      simp
end gp4
