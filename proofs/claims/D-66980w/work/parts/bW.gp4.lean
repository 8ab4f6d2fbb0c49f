/-! ===== well-formed trees: sections ===== -/
section gp5
variable {K : Nat → Nat} {V : Nat → Int32} {N : Nat} {lx : Bool}
theorem itC_sn (cs : Bool) : ∀ (a b : tr_), itC cs (sn_ a b) = (itC cs a && itC cs b)
  | .leaf, _ => by simp [sn_, itC]
  | .inner k i v l r, b => by
    show ((if k = 41 then lbC cs (ks_ l) else true) && itC cs (sn_ r b)) = _
    rw [itC_sn cs r b, ← Bool.and_assoc]
    rfl
theorem itC_lk {cs : Bool} : ∀ {ts : List tr_}, (∀ t ∈ ts, itC cs t = true) → itC cs (lkT ts) = true
  | [], _ => rfl
  | t :: r, h => by
    show itC cs (sn_ t (lkT r)) = true
    rw [itC_sn, h t (by simp), itC_lk (fun u hu => h u (by simp [hu]))]
    rfl
theorem itC_no {cs : Bool} {B : Nat → Bool} {t : tr_} {a b : Nat} (h : g1_ B t a b) (hB : ∀ k, B k = true → k ≠ 41) : itC cs t = true := by
  obtain ⟨k, i, v, l, rfl, hb, _⟩ := h
  show ((if k = 41 then _ else true) && true) = true
  rw [if_neg (hB k hb)]
  rfl
/-- labels (and cases) and a command become an item -/
theorem w_41 {n : Nat} (ih : ∀ m, m < n → WA_ K V N lx m) {cs : Bool} {x a : Nat} {ls : List tr_} {R os p dp sc nd σ} {m : Nat} (hm : m < n) (hg : gr_ tt_ ls a p) (hx : a ≤ x ∧ x ≤ p) (hc : ∀ c, isC_ c = true → lbC cs (ls.map kd_ ++ [c]) = true ∧ lbC true (ls.map kd_ ++ [c]) = true) (h : pj_fx (pF_ K V N lx) m ((11, 0, 0, 0) :: (6, 41, x, os.length) :: R, ls.reverse ++ os, p, dp, sc, nd) = some (.ok σ)) : ∃ t p' dp' sc' nd' m', m' < m ∧ g1_ (fun k => decide (k = 41)) t a p' ∧ itC cs t = true ∧ pj_fx (pF_ K V N lx) m' (R, t :: os, p', dp', sc', nd') = some (.ok σ) := by
  obtain ⟨t, p1, dp1, sc1, nd1, m1, hm1, ht, h⟩ := w_11' ih hm h
  obtain ⟨m2, σ', rfl, e, h⟩ := fz_st K V N lx h
  have e : sf_ 41 x os.length 0 ok_ (R, t :: (ls.reverse ++ os), p1, dp1, sc1, nd1) = some (Except.ok σ') := e
  rw [show t :: (ls.reverse ++ os) = (ls ++ [t]).reverse ++ os by simp] at e
  have e := (sf_app (kk := 41) (tok := x) (a := 0) (f := ok_) (gs := R) (os := os) (p := p1) (dp := dp1) (sc := sc1) (nd := nd1) (ls ++ [t]).reverse).symm.trans e
  rw [List.reverse_reverse] at e
  cases e
  have hg2 : gr_ tt_ (ls ++ [t]) a p1 := gr_sn hg (g1_t ht)
  have l1 := g1_le ht
  have hk := (gr_ks hg2).1
  obtain ⟨q1, q2⟩ := hc (kd_ t) (g1_kd ht)
  have hk2 : (ls ++ [t]).map kd_ = ls.map kd_ ++ [kd_ t] := by simp
  refine ⟨_, p1, _, _, _, m2, by omega, g1_41 hg2 ⟨hx.1, by omega⟩ (Nat.le_refl _) ?_, ?_, h⟩
  · rw [shp_k (by decide) hk, hk2]
    exact q2
  · show ((if (41 : Nat) = 41 then lbC cs (ks_ (lkT (ls ++ [t]))) else true) && true) = true
    rw [if_pos rfl, hk, hk2, q1]
    rfl
/-- a section ends -/
theorem w_ss {f : ps_ → pe_} {gs os p dp sc nd σ'} (h : ss_ K V f (gs, os, p, dp, sc, nd) = some (.ok σ')) : ∃ p' dp' sc', p ≤ p' ∧ f (gs, os, p', dp', sc', nd) = some (.ok σ') := by
  have h : (if K p = 11 then (match sc with
      | [] => none
      | (t, d) :: r => if V p < 0 ∨ t = V p then f (gs, os, p + 1, d, r, nd) else if hs_ (V p) r = true then f (gs, os, p, d, r, nd) else fl_ p)
    else fl_ p) = some (Except.ok σ') := h
  by_cases c : K p = 11
  · rw [if_pos c] at h
    cases sc with
    | nil => cases h
    | cons u r =>
      obtain ⟨t, d⟩ := u
      dsimp only at h
      by_cases c1 : V p < 0 ∨ t = V p
      · rw [if_pos c1] at h; exact ⟨_, _, _, Nat.le_succ _, h⟩
      · rw [if_neg c1] at h
        by_cases c2 : hs_ (V p) r = true
        · rw [if_pos c2] at h; exact ⟨_, _, _, Nat.le_refl _, h⟩
        · rw [if_neg c2] at h; cases h
  · rw [if_neg c] at h; cases h
/-- a block -/
theorem w_blk : ∀ (n : Nat), (∀ m, m < n → WA_ K V N lx m) → ∀ (g : Nat) (ts : List tr_) (y : Nat) R os p dp sc nd σ, (g = 18 ∧ (ts.map kd_).all isL_ = true ∨ g = 20) → gr_ tt_ ts (y + 1) p → (∀ r, r.all (fun j => decide (j = 41)) = true → bkC (ts.map kd_ ++ r) = true) → (∀ t ∈ ts, itC false t = true) → pj_fx (pF_ K V N lx) n ((g, 0, y, os.length) :: R, ts.reverse ++ os, p, dp, sc, nd) = some (.ok σ) → ∃ t' p' dp' sc' nd' m, m < n ∧ g1_ isC_ t' y p' ∧ pj_fx (pF_ K V N lx) m (R, t' :: os, p', dp', sc', nd') = some (.ok σ) := by
  intro n
  induction n using Nat.strongRecOn with
  | _ n ihn =>
  intro ih g ts y R os p dp sc nd σ hgk hg hb hit h
  have lp := gr_le hg
  -- the end
  have fin : ∀ (us : List tr_) q dpx scx ndx m σ', m < n → gr_ tt_ us (y + 1) q → bkC (us.map kd_) = true → (∀ t ∈ us, itC false t = true) → ss_ K V (fun σ => sf_ 36 y os.length 0 ok_ σ) (R, us.reverse ++ os, q, dpx, scx, ndx) = some (.ok σ') → pj_fx (pF_ K V N lx) m σ' = some (.ok σ) → ∃ t' p' dp' sc' nd' m, m < n ∧ g1_ isC_ t' y p' ∧ pj_fx (pF_ K V N lx) m (R, t' :: os, p', dp', sc', nd') = some (.ok σ) := fun us q dpx scx ndx m σ' hm hu hbu hiu e h => by
    obtain ⟨q2, dp2, sc2, hq2, e⟩ := w_ss e
    have e := (sf_app (kk := 36) (tok := y) (a := 0) (f := ok_) (gs := R) (os := os) (p := q2) (dp := dp2) (sc := sc2) (nd := ndx) us.reverse).symm.trans e
    rw [List.reverse_reverse] at e
    cases e
    have hg2 : gr_ tt_ us y q2 := by
      have := gr_le hu
      cases us with
      | nil => show y ≤ q2; omega
      | cons u r => obtain ⟨m', z1, z2⟩ := hu; exact ⟨m', g1_lb z1 (Nat.le_succ y), gr_ub z2 hq2⟩
    have := gr_le hu
    refine ⟨_, q2, _, _, _, m, hm, g1_st (C := tt_) (by rfl) hg2 ⟨Nat.le_refl _, by omega⟩ (Nat.le_refl _) ?_, h⟩
    rw [shp_k (by decide) (gr_ks hg2).1]
    show (bkC (us.map kd_) && itC false (lkT us)) = true
    rw [hbu, itC_lk hiu]
    rfl
  rcases hgk with ⟨rfl, hd⟩ | rfl
  · obtain ⟨m, σ', rfl, e, h⟩ := fz_st K V N lx h
    have e : some (Except.ok ((3, 0, 0, 0) :: (19, 0, y, os.length) :: R, ts.reverse ++ os, p, dp, sc, nd)) = some (Except.ok σ') := e
    cases e
    obtain ⟨t, p1, dp1, sc1, nd1, m1, hm1, ht, h⟩ := (ih m (Nat.lt_succ_self _)).2 0 ((19, 0, y, os.length) :: R) (ts.reverse ++ os) p dp sc nd σ h
    obtain ⟨m2, σ', rfl, e, h⟩ := fz_st K V N lx h
    rw [show t :: (ts.reverse ++ os) = (ts ++ [t]).reverse ++ os by simp] at e
    have e : (if K p1 = 15 then ok_ (((if isD_ (K (p1 + 1)) = true then 18 else 20), 0, y, os.length) :: R, (ts ++ [t]).reverse ++ os, p1 + 1, dp1, sc1, nd1) else ss_ K V (fun σ => sf_ 36 y os.length 0 ok_ σ) (R, (ts ++ [t]).reverse ++ os, p1, dp1, sc1, nd1)) = some (Except.ok σ') := e
    have hg2 : gr_ tt_ (ts ++ [t]) (y + 1) p1 := gr_sn hg (g1_t ht)
    have hkt := g1_kd ht
    have hd2 : ((ts ++ [t]).map kd_).all isL_ = true := by
      rw [List.map_append, List.all_append, hd]
      simp [hkt]
    have hb2 : ∀ r, r.all (fun j => decide (j = 41)) = true → bkC ((ts ++ [t]).map kd_ ++ r) = true := fun r hr => by
      generalize (ts ++ [t]).map kd_ = ks at hd2
      induction ks with
      | nil =>
        cases r with
        | nil => rfl
        | cons k r =>
          simp only [List.all_cons, Bool.and_eq_true, decide_eq_true_eq] at hr
          show (if k = 41 then r.all (fun j => decide (j = 41)) else _) = true
          rw [if_pos hr.1]
          exact hr.2
      | cons k ks ihk =>
        simp only [List.all_cons, Bool.and_eq_true] at hd2
        show (if k = 41 then _ else (decide (50 ≤ k) && decide (k ≤ 53)) && bkC (ks ++ r)) = true
        have hk : isL_ k = true := hd2.1
        unfold isL_ at hk
        rw [if_neg (by simp at hk; omega), hk, ihk hd2.2]
        rfl
    have hi2 : ∀ u ∈ ts ++ [t], itC false u = true := fun u hu => by
      rcases List.mem_append.mp hu with z | z
      · exact hit u z
      · simp at z; subst z
        exact itC_no ht (fun k hk => by unfold isL_ at hk; simp at hk; omega)
    by_cases c15 : K p1 = 15
    · rw [if_pos c15] at e
      cases e
      obtain ⟨t3, p3, dp3, sc3, nd3, m3, hm3, ht3, h⟩ := ihn m2 (by omega) (fun k hk => ih k (by omega)) _ (ts ++ [t]) y R os (p1 + 1) _ _ _ σ (by split; exact Or.inl ⟨rfl, hd2⟩; exact Or.inr rfl) (gr_ub hg2 (Nat.le_succ _)) hb2 hi2 h
      exact ⟨t3, p3, _, _, _, m3, by omega, ht3, h⟩
    · rw [if_neg c15] at e
      exact fin (ts ++ [t]) p1 _ _ _ m2 σ' (by omega) hg2 (by have := hb2 [] rfl; simpa using this) hi2 e h
  · obtain ⟨m, σ', rfl, e, h⟩ := fz_st K V N lx h
    obtain ⟨ls, nd', el, hl⟩ := lb_e (K := K) (V := V) N ((21, 0, y, os.length) :: R) (ts.reverse ++ os) p dp sc nd
    have e : some (Except.ok (gpT [(11, 0, 0, 0), (6, 41, p, (ts.reverse ++ os).length)] (lb_ K V N ((21, 0, y, os.length) :: R, ts.reverse ++ os, p, dp, sc, nd)))) = some (Except.ok σ') := e
    rw [el] at e
    cases e
    have hl4 := (gr_ks hl).2
    obtain ⟨t, p1, dp1, sc1, nd1, m1, hm1, ht, hti, h⟩ := w_41 (cs := false) ih (Nat.lt_succ_self _) (gr_t hl) ⟨Nat.le_refl _, Nat.le_add_right _ _⟩ (fun c hc => ⟨lbC_42 false hl4 hc, lbC_42 true hl4 hc⟩) h
    obtain ⟨m2, σ', rfl, e, h⟩ := fz_st K V N lx h
    rw [show t :: (ts.reverse ++ os) = (ts ++ [t]).reverse ++ os by simp] at e
    have e : (if K p1 = 15 then ok_ ((20, 0, y, os.length) :: R, (ts ++ [t]).reverse ++ os, p1 + 1, dp1, sc1, nd1) else ss_ K V (fun σ => sf_ 36 y os.length 0 ok_ σ) (R, (ts ++ [t]).reverse ++ os, p1, dp1, sc1, nd1)) = some (Except.ok σ') := e
    have hg2 : gr_ tt_ (ts ++ [t]) (y + 1) p1 := gr_sn hg (g1_t ht)
    have hkt : kd_ t = 41 := by have := g1_kd ht; simpa using this
    have hb2 : ∀ r, r.all (fun j => decide (j = 41)) = true → bkC ((ts ++ [t]).map kd_ ++ r) = true := fun r hr => by
      rw [List.map_append, List.append_assoc]
      refine hb _ ?_
      show ([kd_ t] ++ r).all _ = true
      simp only [List.singleton_append, List.all_cons, Bool.and_eq_true, decide_eq_true_eq]
      exact ⟨hkt, hr⟩
    have hi2 : ∀ u ∈ ts ++ [t], itC false u = true := fun u hu => by
      rcases List.mem_append.mp hu with z | z
      · exact hit u z
      · simp at z; subst z; exact hti
    by_cases c15 : K p1 = 15
    · rw [if_pos c15] at e
      cases e
      obtain ⟨t3, p3, dp3, sc3, nd3, m3, hm3, ht3, h⟩ := ihn m2 (by omega) (fun k hk => ih k (by omega)) 20 (ts ++ [t]) y R os (p1 + 1) _ _ _ σ (Or.inr rfl) (gr_ub hg2 (Nat.le_succ _)) hb2 hi2 h
      exact ⟨t3, p3, _, _, _, m3, by omega, ht3, h⟩
    · rw [if_neg c15] at e
      exact fin (ts ++ [t]) p1 _ _ _ m2 σ' (by omega) hg2 (by have := hb2 [] rfl; simpa using this) hi2 e h
theorem lbC_cs : ∀ {ks : List Nat} {r : List Nat}, ks.all (fun k => decide (k = 43) || decide (k = 44)) = true → r ≠ [] → lbC true r = true → lbC true (ks ++ r) = true
  | [], r, _, _, h => h
  | k :: ks, r, hk, hr, h => by
    simp only [List.all_cons, Bool.and_eq_true] at hk
    have q := lbC_cs hk.2 hr h
    cases hz : ks ++ r with
    | nil => simp at hz; exact absurd hz.2 hr
    | cons a b =>
      rw [hz] at q
      show lbC true (k :: (ks ++ r)) = true
      rw [hz]
      show ((decide (k = 42) || (true && (decide (k = 43) || decide (k = 44)))) && lbC true (a :: b)) = true
      rw [q, hk.1]
      simp
/-- a part of a SWITCHON: cases, labels, a command -/
theorem w_23 : ∀ (n : Nat), (∀ m, m < n → WA_ K V N lx m) → ∀ (pre : List tr_) (a : Nat) R os p dp sc nd σ, gr_ tt_ pre a p → (pre.map kd_).all (fun k => decide (k = 43) || decide (k = 44)) = true → pj_fx (pF_ K V N lx) n ((23, a, 0, os.length) :: R, pre.reverse ++ os, p, dp, sc, nd) = some (.ok σ) → ∃ t' p' dp' sc' nd' m, m < n ∧ g1_ (fun k => decide (k = 41)) t' a p' ∧ itC true t' = true ∧ pj_fx (pF_ K V N lx) m (R, t' :: os, p', dp', sc', nd') = some (.ok σ) := by
  intro n
  induction n using Nat.strongRecOn with
  | _ n ihn =>
  intro ih pre a R os p dp sc nd σ hg hk h
  obtain ⟨m, σ', rfl, e, h⟩ := fz_st K V N lx h
  have lp := gr_le hg
  have e : (if K p = 59 then ok_ ((28, 0, 0, 0) :: (6, 43, p, (pre.reverse ++ os).length) :: (16, 17, 0, 0) :: (23, a, 0, os.length) :: R, pre.reverse ++ os, p + 1, dp, sc, nd)
      else if K p = 60 then (if K (p + 1) = 17 then ok_ ((23, a, 0, os.length) :: R, lf_ 44 p 0 nd :: (pre.reverse ++ os), p + 2, dp, sc, nd + 1) else fl_ (p + 1))
      else ok_ (gpT [(11, 0, 0, 0), (6, 41, a, os.length)] (lb_ K V N (R, pre.reverse ++ os, p, dp, sc, nd)))) = some (Except.ok σ') := e
  by_cases c59 : K p = 59
  · rw [if_pos c59] at e
    cases e
    obtain ⟨t, p1, dp1, sc1, nd1, m1, hm1, ht, h⟩ := w_28' ih (Nat.lt_succ_self _) h
    have l1 := g1_e ht
    obtain ⟨t2, nd2, m2, hm2, ht2, hk2, h⟩ := w_6 (B := tt_) (ts := [t]) (k := 43) (by decide) rfl (gr_1 (g1_t (g1_lb ht (Nat.le_succ p)))) ⟨Nat.le_refl _, by omega⟩ (by rw [shp_k (by decide) (all_1 ht)]; exact g1_kd ht) h
    obtain ⟨m3, hm3, h⟩ := w_16 h
    rw [show t2 :: (pre.reverse ++ os) = (pre ++ [t2]).reverse ++ os by simp] at h
    obtain ⟨t3, p3, dp3, sc3, nd3, m4, hm4, ht3, hi3, h⟩ := ihn m3 (by omega) (fun k hk => ih k (by omega)) (pre ++ [t2]) a R os (p1 + 1) _ _ _ σ (gr_ub (gr_sn hg ht2) (Nat.le_succ _)) (by rw [List.map_append, List.all_append, hk]; simp [hk2]) h
    exact ⟨t3, p3, _, _, _, m4, by omega, ht3, hi3, h⟩
  rw [if_neg c59] at e
  by_cases c60 : K p = 60
  · rw [if_pos c60] at e
    by_cases c17 : K (p + 1) = 17
    · rw [if_pos c17] at e
      cases e
      have ht2 : g1_ tt_ (lf_ 44 p 0 nd) p (p + 2) := g1_lf rfl ⟨Nat.le_refl _, Or.inl (by omega)⟩ rfl
      rw [show lf_ 44 p 0 nd :: (pre.reverse ++ os) = (pre ++ [lf_ 44 p 0 nd]).reverse ++ os by simp] at h
      obtain ⟨t3, p3, dp3, sc3, nd3, m4, hm4, ht3, hi3, h⟩ := ihn m (by omega) (fun k hk => ih k (by omega)) (pre ++ [lf_ 44 p 0 nd]) a R os (p + 2) _ _ _ σ (gr_sn hg ht2) (by
        rw [List.map_append, List.all_append, hk]
        rfl) h
      exact ⟨t3, p3, _, _, _, m4, by omega, ht3, hi3, h⟩
    · rw [if_neg c17] at e; cases e
  rw [if_neg c60] at e
  obtain ⟨ls, nd', el, hl⟩ := lb_e (K := K) (V := V) N R (pre.reverse ++ os) p dp sc nd
  rw [el] at e
  cases e
  have hl4 := (gr_ks hl).2
  rw [show ls.reverse ++ (pre.reverse ++ os) = (pre ++ ls).reverse ++ os by simp] at h
  have hg2 : gr_ tt_ (pre ++ ls) a (p + 2 * ls.length) := gr_app hg (gr_t hl)
  have hc : ∀ c, isC_ c = true → lbC true ((pre ++ ls).map kd_ ++ [c]) = true ∧ lbC true ((pre ++ ls).map kd_ ++ [c]) = true := fun c hc => by
    have := lbC_cs hk (r := ls.map kd_ ++ [c]) (by simp) (lbC_42 true hl4 hc)
    rw [List.map_append, List.append_assoc]
    exact ⟨this, this⟩
  obtain ⟨t, p1, dp1, sc1, nd1, m1, hm1, ht, hti, h⟩ := w_41 (cs := true) ih (Nat.lt_succ_self _) hg2 ⟨Nat.le_refl _, by omega⟩ hc h
  exact ⟨t, p1, _, _, _, m1, by omega, ht, hti, h⟩
/-- the parts of a SWITCHON -/
theorem w_22 : ∀ (n : Nat), (∀ m, m < n → WA_ K V N lx m) → ∀ (e0 : tr_) (ts : List tr_) (y q : Nat) R os p dp sc nd σ, g1_ isE_ e0 (y + 1) q → gr_ (fun k => decide (k = 41)) ts q p → (∀ t ∈ ts, itC true t = true) → pj_fx (pF_ K V N lx) n ((22, 0, y, os.length) :: R, ts.reverse ++ (e0 :: os), p, dp, sc, nd) = some (.ok σ) → ∃ t' p' dp' sc' nd' m, m < n ∧ g1_ isC_ t' y p' ∧ pj_fx (pF_ K V N lx) m (R, t' :: os, p', dp', sc', nd') = some (.ok σ) := by
  intro n
  induction n using Nat.strongRecOn with
  | _ n ihn =>
  intro ih e0 ts y q R os p dp sc nd σ h0 hg hit h
  obtain ⟨m, σ', rfl, e, h⟩ := fz_st K V N lx h
  have e : some (Except.ok ((23, p, 0, (ts.reverse ++ (e0 :: os)).length) :: (24, 0, y, os.length) :: R, ts.reverse ++ (e0 :: os), p, dp, sc, nd)) = some (Except.ok σ') := e
  cases e
  obtain ⟨t, p1, dp1, sc1, nd1, m1, hm1, ht, hti, h⟩ := w_23 m (fun k hk => ih k (by omega)) [] p ((24, 0, y, os.length) :: R) (ts.reverse ++ (e0 :: os)) p dp sc nd σ (Nat.le_refl _) rfl h
  obtain ⟨m2, σ', rfl, e, h⟩ := fz_st K V N lx h
  rw [show t :: (ts.reverse ++ (e0 :: os)) = (ts ++ [t]).reverse ++ (e0 :: os) by simp] at e
  have e : (if K p1 = 15 then ok_ ((22, 0, y, os.length) :: R, (ts ++ [t]).reverse ++ (e0 :: os), p1 + 1, dp1, sc1, nd1) else ss_ K V (fun σ => sf_ 28 y os.length 0 ok_ σ) (R, (ts ++ [t]).reverse ++ (e0 :: os), p1, dp1, sc1, nd1)) = some (Except.ok σ') := e
  have hg2 : gr_ (fun k => decide (k = 41)) (ts ++ [t]) q p1 := gr_sn hg ht
  have hi2 : ∀ u ∈ ts ++ [t], itC true u = true := fun u hu => by
    rcases List.mem_append.mp hu with z | z
    · exact hit u z
    · simp at z; subst z; exact hti
  have l0 := g1_e h0
  have l2 := gr_le hg2
  by_cases c15 : K p1 = 15
  · rw [if_pos c15] at e
    cases e
    obtain ⟨t3, p3, dp3, sc3, nd3, m3, hm3, ht3, h⟩ := ihn m2 (by omega) (fun k hk => ih k (by omega)) e0 (ts ++ [t]) y q R os (p1 + 1) _ _ _ σ h0 (gr_ub hg2 (Nat.le_succ _)) hi2 h
    exact ⟨t3, p3, _, _, _, m3, by omega, ht3, h⟩
  · rw [if_neg c15] at e
    obtain ⟨q2, dp2, sc2, hq2, e⟩ := w_ss e
    rw [show (ts ++ [t]).reverse ++ (e0 :: os) = (e0 :: (ts ++ [t])).reverse ++ os by simp] at e
    have e := (sf_app (kk := 28) (tok := y) (a := 0) (f := ok_) (gs := R) (os := os) (p := q2) (dp := dp2) (sc := sc2) (nd := nd1) (e0 :: (ts ++ [t])).reverse).symm.trans e
    rw [List.reverse_reverse] at e
    cases e
    have hg3 : gr_ tt_ (e0 :: (ts ++ [t])) y q2 := ⟨q, g1_t (g1_lb h0 (Nat.le_succ y)), gr_ub (gr_t hg2) hq2⟩
    refine ⟨_, q2, _, _, _, m2, by omega, g1_st (C := tt_) (by rfl) hg3 ⟨Nat.le_refl _, by omega⟩ (Nat.le_refl _) ?_, h⟩
    rw [shp_k (by decide) (gr_ks hg3).1]
    have hk := (gr_ks hg2).2
    cases hz : (ts ++ [t]).map kd_ with
    | nil => have := congrArg List.length hz; simp at this
    | cons k r =>
      rw [hz] at hk
      show shq 28 0 _ (kd_ e0 :: (ts ++ [t]).map kd_) = true
      rw [hz]
      show (isE_ (kd_ e0) && ((k :: r).all (fun j => decide (j = 41)) && itC true (lkT (e0 :: (ts ++ [t]))))) = true
      rw [g1_kd h0, hk, itC_lk (fun u hu => by
        rcases List.mem_cons.mp hu with rfl | z
        · exact itC_no h0 (fun k hk => by unfold isE_ at hk; simp at hk; omega)
        · exact hi2 u z)]
      rfl
end gp5
