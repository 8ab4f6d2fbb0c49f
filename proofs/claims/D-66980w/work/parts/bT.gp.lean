/-! ===== well-formed trees: the reference's parser leaves them: expressions ===== -/
section gp
variable (K : Nat → Nat) (V : Nat → Int32) (N : Nat) (lx : Bool)
theorem fz_st {n g x y z p dp nd : Nat} {gs : List gl_} {os : List tr_} {sc : List (Int32 × Nat)} {σ : ps_} (h : pj_fx (pF_ K V N lx) n ((g, x, y, z) :: gs, os, p, dp, sc, nd) = some (.ok σ)) : ∃ m σ', n = m + 1 ∧ pS_ K V N lx g x y z (gs, os, p, dp, sc, nd) = some (.ok σ') ∧ pj_fx (pF_ K V N lx) m σ' = some (.ok σ) := by
  cases n with
  | zero => cases h
  | succ m =>
    have h : (match pb_ N gs sc p dp nd x y z with
      | false => none
      | true => match pS_ K V N lx g x y z (gs, os, p, dp, sc, nd) with
        | none => none
        | some (.error e) => some (.error e)
        | some (.ok σ) => pj_fx (pF_ K V N lx) m σ) = some (Except.ok σ) := h
    cases hb : pb_ N gs sc p dp nd x y z with
    | false => rw [hb] at h; cases h
    | true =>
      rw [hb] at h
      cases hs : pS_ K V N lx g x y z (gs, os, p, dp, sc, nd) with
      | none => rw [hs] at h; cases h
      | some q =>
        rw [hs] at h
        cases q with
        | error e => cases h
        | ok σ' => exact ⟨m, σ', rfl, rfl, h⟩
/-- goals that leave one tree more -/
def SP_ (n : Nat) (G : Nat → List gl_) (B : Nat → Bool) : Prop := ∀ R os p dp sc nd σ, pj_fx (pF_ K V N lx) n (G os.length ++ R, os, p, dp, sc, nd) = some (.ok σ) → ∃ t p' dp' sc' nd' m, m < n ∧ g1_ B t p p' ∧ pj_fx (pF_ K V N lx) m (R, t :: os, p', dp', sc', nd') = some (.ok σ)
/-- goals that make another tree of the last one -/
def ST_ (n : Nat) (G : Nat → List gl_) (B C : Nat → Bool) : Prop := ∀ R os t a p dp sc nd σ, g1_ B t a p → pj_fx (pF_ K V N lx) n (G os.length ++ R, t :: os, p, dp, sc, nd) = some (.ok σ) → ∃ t' p' dp' sc' nd' m, m < n ∧ g1_ C t' a p' ∧ pj_fx (pF_ K V N lx) m (R, t' :: os, p', dp', sc', nd') = some (.ok σ)
/-- all that is said of goals, for what takes n steps -/
def WE_ (n : Nat) : Prop :=
  SP_ K V N lx n (fun _ => [(28, 0, 0, 0)]) isE_ ∧ (∀ l, l ≤ 7 → SP_ K V N lx n (fun _ => [bl_ l]) isE_) ∧ (∀ l, 1 ≤ l → l ≤ 7 → ST_ K V N lx n (fun z => [(31, l, 0, z)]) isE_ isE_) ∧
  SP_ K V N lx n (fun _ => [(34, 0, 0, 0)]) isE_ ∧ ST_ K V N lx n (fun z => [(35, 0, 0, z)]) isE_ isE_ ∧ SP_ K V N lx n (fun _ => [(36, 0, 0, 0)]) isE_ ∧ ST_ K V N lx n (fun z => [(37, 0, 0, z)]) isE_ isE_ ∧ SP_ K V N lx n (fun _ => [(39, 0, 0, 0)]) isE_ ∧ SP_ K V N lx n (fun _ => [(11, 0, 0, 0)]) isC_
end gp
section gp2
variable {K : Nat → Nat} {V : Nat → Int32} {N : Nat} {lx : Bool}
theorem g1_e {t : tr_} {a b : Nat} (h : g1_ isE_ t a b) : a < b ∧ 1 ≤ kd_ t ∧ kd_ t ≤ 12 := by
  obtain ⟨k, i, v, l, rfl, hB, m, h1, h2, h3, h4⟩ := h
  unfold isE_ at hB
  simp only [Bool.and_eq_true, decide_eq_true_eq] at hB
  have := h1.2.2.2 (by omega) (by omega)
  have : m ≤ b := h4
  exact ⟨by omega, hB⟩
theorem all_1 {B : Nat → Bool} {t : tr_} {a b : Nat} (h : g1_ B t a b) : ks_ (lkT [t]) = [kd_ t] := (gr_ks (B := B) (ts := [t]) (a := a) (b := b) ⟨b, h, Nat.le_refl _⟩).1
theorem gr_1 {B : Nat → Bool} {t : tr_} {a b : Nat} (h : g1_ B t a b) : gr_ B [t] a b := ⟨b, h, Nat.le_refl _⟩
theorem gr_2 {B : Nat → Bool} {t u : tr_} {a m b : Nat} (h : g1_ B t a m) (h2 : g1_ B u m b) : gr_ B [t, u] a b := ⟨m, h, b, h2, Nat.le_refl _⟩
theorem shp_k {k : Nat} {a : Int32} {ts : List tr_} (hk : shl k = false) {ks : List Nat} (he : ks_ (lkT ts) = ks) : shp k a (lkT ts) = shq k a (fun cs => itC cs (lkT ts)) ks := by
  subst he
  unfold shp
  rw [hk]
  rfl
/-- an expression -/
theorem w_28 {n : Nat} (ih : ∀ m, m < n → WE_ K V N lx m) : SP_ K V N lx n (fun _ => [(28, 0, 0, 0)]) isE_ := by
  intro R os p dp sc nd σ h
  obtain ⟨m, σ', rfl, e, h⟩ := fz_st K V N lx h
  have e : some (Except.ok ((30, 1, 0, 0) :: (29, 0, 0, os.length) :: R, os, p, dp, sc, nd)) = some (Except.ok σ') := e
  cases e
  obtain ⟨t, p1, dp1, sc1, nd1, m1, hm1, ht, h⟩ := (ih m (Nat.lt_succ_self _)).2.1 0 (by omega) ((29, 0, 0, os.length) :: R) os p dp sc nd σ h
  obtain ⟨m2, σ', rfl, e, h⟩ := fz_st K V N lx h
  have e : (if K p1 = 36 then (if dp1 = 60 then fl_ p1 else ok_ ((28, 0, 0, 0) :: (29, 1, p1, os.length) :: (15, dp1, 0, 0) :: R, t :: os, p1 + 1, dp1 + 1, sc1, nd1)) else ok_ (R, t :: os, p1, dp1, sc1, nd1)) = some (Except.ok σ') := e
  by_cases c : K p1 = 36
  · rw [if_pos c] at e
    by_cases c6 : dp1 = 60
    · rw [if_pos c6] at e; cases e
    rw [if_neg c6] at e
    cases e
    obtain ⟨t2, p2, dp2, sc2, nd2, m3, hm3, ht2, h⟩ := (ih m2 (by omega)).1 ((29, 1, p1, os.length) :: (15, dp1, 0, 0) :: R) (t :: os) (p1 + 1) (dp1 + 1) sc1 nd1 σ h
    obtain ⟨m4, σ', rfl, e, h⟩ := fz_st K V N lx h
    have e : (if K p2 = 14 then some (Except.ok ((28, 0, 0, 0) :: (29, 2, p1, os.length) :: (15, dp1, 0, 0) :: R, t2 :: t :: os, p2 + 1, dp2, sc2, nd2)) else fl_ p2) = some (Except.ok σ') := e
    by_cases c14 : K p2 = 14
    · rw [if_pos c14] at e
      cases e
      obtain ⟨t3, p3, dp3, sc3, nd3, m5, hm5, ht3, h⟩ := (ih m4 (by omega)).1 ((29, 2, p1, os.length) :: (15, dp1, 0, 0) :: R) (t2 :: t :: os) (p2 + 1) dp2 sc2 nd2 σ h
      obtain ⟨m6, σ', rfl, e, h⟩ := fz_st K V N lx h
      have e := (sf_app (kk := 12) (tok := p1) (a := 0) (f := ok_) (gs := (15, dp1, 0, 0) :: R) (os := os) (p := p3) (dp := dp3) (sc := sc3) (nd := nd3) [t3, t2, t]).symm.trans e
      cases e
      obtain ⟨m7, σ', rfl, e, h⟩ := fz_st K V N lx h
      have e : some (Except.ok (R, st_ 12 p1 0 nd3 [t, t2, t3] :: os, p3, dp1, sc3, nd3 + 1)) = some (Except.ok σ') := e
      cases e
      have l1 := g1_e ht
      have l2 := g1_e ht2
      have l3 := g1_e ht3
      have hg : gr_ isE_ [t, t2, t3] p p3 := ⟨p1, ht, p2, g1_lb ht2 (by omega), p3, g1_lb ht3 (by omega), Nat.le_refl _⟩
      refine ⟨_, p3, _, _, _, m7, by omega, g1_st (C := isE_) (by rfl) hg ⟨by omega, by omega⟩ (Nat.le_refl _) ?_, h⟩
      rw [shp_k (by decide) (gr_ks hg).1]
      show (isE_ (kd_ t) && (isE_ (kd_ t2) && isE_ (kd_ t3))) = true
      rw [g1_kd ht, g1_kd ht2, g1_kd ht3]
      rfl
    · rw [if_neg c14] at e; cases e
  · rw [if_neg c] at e
    cases e
    exact ⟨t, p1, _, _, _, m2, by omega, ht, h⟩
/-- a level of signs -/
theorem w_bl {n : Nat} (ih : ∀ m, m < n → WE_ K V N lx m) (l : Nat) (hl : l ≤ 7) : SP_ K V N lx n (fun _ => [bl_ l]) isE_ := by
  intro R os p dp sc nd σ h
  rcases Nat.lt_or_ge l 7 with h7 | h7
  · have eb : bl_ l = (30, l + 1, 0, 0) := by unfold bl_; rw [if_pos h7]
    rw [eb] at h
    obtain ⟨m, σ', rfl, e, h⟩ := fz_st K V N lx h
    have e : some (Except.ok (bl_ (l + 1) :: (31, l + 1, 0, os.length) :: R, os, p, dp, sc, nd)) = some (Except.ok σ') := e
    cases e
    obtain ⟨t, p1, dp1, sc1, nd1, m1, hm1, ht, h⟩ := (ih m (Nat.lt_succ_self _)).2.1 (l + 1) (by omega) ((31, l + 1, 0, os.length) :: R) os p dp sc nd σ h
    obtain ⟨t2, p2, dp2, sc2, nd2, m2, hm2, ht2, h⟩ := (ih m1 (by omega)).2.2.1 (l + 1) (by omega) (by omega) R os t p p1 dp1 sc1 nd1 σ ht h
    exact ⟨t2, p2, _, _, _, m2, by omega, ht2, h⟩
  · obtain rfl : l = 7 := by omega
    -- signs ahead
    obtain ⟨m, σ', rfl, e, h⟩ := fz_st K V N lx (g := 33) (x := 0) (y := 0) (z := 0) h
    have e : (if K p = 21 ∨ K p = 22 ∨ K p = 33 then (if dp = 60 then fl_ p else ok_ ((33, 0, 0, 0) :: (37, 1, p, os.length) :: (15, dp, 0, 0) :: R, os, p + 1, dp + 1, sc, nd)) else ok_ ((34, 0, 0, 0) :: R, os, p, dp, sc, nd)) = some (Except.ok σ') := e
    by_cases c : K p = 21 ∨ K p = 22 ∨ K p = 33
    · rw [if_pos c] at e
      by_cases c6 : dp = 60
      · rw [if_pos c6] at e; cases e
      rw [if_neg c6] at e
      cases e
      obtain ⟨t, p1, dp1, sc1, nd1, m1, hm1, ht, h⟩ := (ih m (Nat.lt_succ_self _)).2.1 7 (by omega) ((37, 1, p, os.length) :: (15, dp, 0, 0) :: R) os (p + 1) (dp + 1) sc nd σ h
      obtain ⟨m2, σ', rfl, e, h⟩ := fz_st K V N lx h
      have e : (if p < N then sf_ 10 p os.length (nI (K p)) ok_ ((15, dp, 0, 0) :: R, t :: os, p1, dp1, sc1, nd1) else none) = some (Except.ok σ') := e
      by_cases cN : p < N
      · rw [if_pos cN] at e
        have e := (sf_app (kk := 10) (tok := p) (a := nI (K p)) (f := ok_) (gs := (15, dp, 0, 0) :: R) (os := os) (p := p1) (dp := dp1) (sc := sc1) (nd := nd1) [t]).symm.trans e
        cases e
        obtain ⟨m3, σ', rfl, e, h⟩ := fz_st K V N lx h
        have e : some (Except.ok (R, st_ 10 p (nI (K p)) nd1 [t] :: os, p1, dp, sc1, nd1 + 1)) = some (Except.ok σ') := e
        cases e
        have l1 := g1_e ht
        have ht' := g1_lb (c := p) ht (by omega)
        refine ⟨_, p1, _, _, _, m3, by omega, g1_st (C := isE_) (by rfl) (gr_1 ht') ⟨by omega, by omega⟩ (Nat.le_refl _) ?_, h⟩
        rw [shp_k (by decide) (all_1 ht)]
        exact g1_kd ht
      · rw [if_neg cN] at e; cases e
    · rw [if_neg c] at e
      cases e
      obtain ⟨t, p1, dp1, sc1, nd1, m1, hm1, ht, h⟩ := (ih m (Nat.lt_succ_self _)).2.2.2.1 R os p dp sc nd σ h
      exact ⟨t, p1, _, _, _, m1, by omega, ht, h⟩
end gp2
