/-! ===== the goals, one by one: by gen/pgoal.py ===== -/
section PRgoal
variable {K : Nat → Nat} {V : Nat → Int32} {N : Nat} {lx : Bool} {s : mm_S} {gs : List gl_} {os : List tr_} {p dp n : Nat} {sc : List (Int32 × Nat)} {r : pe_}
theorem nlo_ (n : Nat) : (OfNat.ofNat n : Int32) = nI (OfNat.ofNat n : Nat) := rfl
theorem PR_a (h : PR K V N lx s (gs, os, p, dp, sc, n)) : s 0 43 = nI p := h.2.1.2.2.1
theorem PR_o (h : PR K V N lx s (gs, os, p, dp, sc, n)) : s 0 37 = nI os.length := h.2.1.2.1
theorem PR_d4 (h : PR K V N lx s (gs, os, p, dp, sc, n)) : s 0 44 = nI dp := h.2.1.2.2.2.1
theorem lvT_lt (k : Nat) : lv_ k < 2 ^ 31 := by
  unfold lv_
  repeat' split
  all_goals decide
theorem q_goal' {d : Nat} {k : mm_S → mm_O} {x1 x2 x3 x4 : Int32} {g x y z : Nat} (h : PR K V N lx s (gs, os, p, dp, sc, n)) (e1 : x1 = nI g) (e2 : x2 = nI x) (e3 : x3 = nI y) (e4 : x4 = nI z) (hg : gs.length < 9000) (hb : g < 100 ∧ x < 2 ^ 31 ∧ y < 2 ^ 31 ∧ z < 2 ^ 31)
    (hk : ∀ s1, PR K V N lx s1 ((g, x, y, z) :: gs, os, p, dp, sc, n) → pq_ K V N lx r (k s1)) : pq_ K V N lx r (mm_bV (mE (d + 1) 24 [vr_ (some 0), vi_ x1, vi_ x2, vi_ x3, vi_ x4] s) k) := by
  subst e1 e2 e3 e4
  exact q_goal g x y z h hg hb hk
/-- ahead of the goal the place goes on by one -/
theorem q_goalp {d : Nat} {k : mm_S → mm_O} {x0 x1 x2 x3 x4 : Int32} {g x y z : Nat} (h : PR K V N lx s (gs, os, p, dp, sc, n)) (e0 : x0 = nI p) (hp : p + 1 ≤ 4000) (e1 : x1 = nI g) (e2 : x2 = nI x) (e3 : x3 = nI y) (e4 : x4 = nI z) (hg : gs.length < 9000) (hb : g < 100 ∧ x < 2 ^ 31 ∧ y < 2 ^ 31 ∧ z < 2 ^ 31)
    (hk : ∀ s1, PR K V N lx s1 ((g, x, y, z) :: gs, os, p + 1, dp, sc, n) → pq_ K V N lx r (k s1)) : pq_ K V N lx r (mm_bV (mE (d + 1) 24 [vr_ (some 0), vi_ x1, vi_ x2, vi_ x3, vi_ x4] (mm_u s 0 43 (x0 + 1))) k) := by
  subst e0 e1 e2 e3 e4
  rw [nI_1]
  exact q_goal g x y z (PR_p h (p + 1) hp) hg hb hk
theorem q_okp {x0 : Int32} (h : PR K V N lx s (gs, os, p, dp, sc, n)) (hp : p + 1 ≤ 4000) (e0 : x0 = nI p) : pq_ K V N lx (ok_ (gs, os, p + 1, dp, sc, n)) (some (some (vi_ 1), mm_u s 0 43 (x0 + 1))) := by
  subst e0
  rw [nI_1]
  exact q_ok (PR_p h (p + 1) hp)
theorem q_tkp {d : Nat} {x0 : Int32} {k : Int32 → mm_S → mm_O} (h : PR K V N lx s (gs, os, p, dp, sc, n)) (e0 : x0 = nI p) (hp : p + 1 ≤ 4000) (hk : ∀ s1, PR K V N lx s1 (gs, os, p + 1, dp, sc, n) → pq_ K V N lx r (k (nI (K (p + 1))) s1)) : pq_ K V N lx r (mm_bI (mE (d + 1) 25 [vr_ (some 0)] (mm_u s 0 43 (x0 + 1))) k) := by
  subst e0
  rw [nI_1]
  exact q_tk (PR_p h (p + 1) hp) (hk _ (PR_p h (p + 1) hp))
theorem q_take' {d x : Nat} {x1 : Int32} {k : Int32 → mm_S → mm_O} (h : PR K V N lx s (gs, os, p, dp, sc, n)) (e : x1 = nI x) (hx : 0 < x) (hx2 : x < 2 ^ 31) (h1 : K p = x → ∀ s1, PR K V N lx s1 (gs, os, p + 1, dp, sc, n) → pq_ K V N lx r (k 1 s1)) (h0 : K p ≠ x → pq_ K V N lx r (k 0 s)) : pq_ K V N lx r (mm_bI (mE (d + 2) 27 [vr_ (some 0), vi_ x1] s) k) := by
  subst e
  exact q_take h hx hx2 h1 h0
theorem q_takeq {d x : Nat} {x1 : Int32} {f : ps_ → pe_} {k : Int32 → mm_S → mm_O} (h : PR K V N lx s (gs, os, p, dp, sc, n)) (e : x1 = nI x) (hx : 0 < x) (hx2 : x < 2 ^ 31) (h1 : K p = x → ∀ s1, PR K V N lx s1 (gs, os, p + 1, dp, sc, n) → pq_ K V N lx (f (gs, os, p + 1, dp, sc, n)) (k 1 s1)) (h0 : pq_ K V N lx (fl_ p) (k 0 s)) : pq_ K V N lx (tq_ K x f (gs, os, p, dp, sc, n)) (mm_bI (mE (d + 2) 27 [vr_ (some 0), vi_ x1] s) k) := by
  subst e
  dsimp only [tq_]
  refine q_take h hx hx2 (fun e => ?_) (fun e => ?_)
  · rw [if_pos e]; exact h1 e
  · rw [if_neg e]; exact h0
theorem q_openq {d : Nat} {f : ps_ → pe_} {k : Int32 → mm_S → mm_O} (h : PR K V N lx s (gs, os, p, dp, sc, n)) (hs : sc.length < 70) (hd : dp + 1 < 2 ^ 31) (h0 : pq_ K V N lx (fl_ p) (k 0 s)) (h1 : K p = 10 → dp ≠ 60 → ∀ s1, PR K V N lx s1 (gs, os, p + 1, dp + 1, (V p, dp) :: sc, n) → pq_ K V N lx (f (gs, os, p + 1, dp + 1, (V p, dp) :: sc, n)) (k 1 s1)) :
    pq_ K V N lx (os_ K V f (gs, os, p, dp, sc, n)) (mm_bI (mE (d + 2) 30 [vr_ (some 0)] s) k) := by
  dsimp only [os_]
  refine q_open h hs hd (fun e => ?_) (fun e1 e2 => ?_)
  · rcases e with e | e
    · rw [if_neg e]; exact h0
    · by_cases e1 : K p = 10
      · rw [if_pos e1, if_pos e]; exact h0
      · rw [if_neg e1]; exact h0
  · rw [if_pos e1, if_neg e2]; exact h1 e1 e2
theorem q_none {o : mm_O} : pq_ K V N lx none o := trivial
theorem q_shut' {d : Nat} {kk : Int32 → mm_S → mm_O} {f : ps_ → pe_} {x1 x2 x3 x4 a : Int32} {k tok base : Nat} (h : PR K V N lx s (gs, os, p, dp, sc, n)) (e1 : x1 = nI k) (e2 : x2 = nI tok) (e3 : x3 = nI base) (e4 : x4 = a) (hn : n < 26000) (hk : k < 100 ∧ k ≠ 20) (ht : tok < 2 ^ 31)
    (hc : base ≤ os.length → ∀ s1, PR K V N lx s1 (gs, st_ k tok a n (os.take (os.length - base)).reverse :: os.drop (os.length - base), p, dp, sc, n + 1) → s1 29 n = a → pq_ K V N lx (f (gs, st_ k tok a n (os.take (os.length - base)).reverse :: os.drop (os.length - base), p, dp, sc, n + 1)) (kk (nI n) s1)) : pq_ K V N lx (sf_ k tok base a f (gs, os, p, dp, sc, n)) (mm_bI (mE (d + 2) 22 [vr_ (some 0), vi_ x1, vi_ x2, vi_ x3, vi_ x4] s) kk) := by
  subst e1 e2 e3 e4
  dsimp only [sf_]
  by_cases hb : base ≤ os.length
  · rw [if_pos hb]
    exact q_shut k tok base _ h hn hk ht hb (hc hb)
  · rw [if_neg hb]
    trivial
theorem q_okd {x : Nat} (h : PR K V N lx s (gs, os, p, dp, sc, n)) (hx : x < 2 ^ 31) : pq_ K V N lx (ok_ (gs, os, p, x, sc, n)) (some (some (vi_ 1), mm_u s 0 44 (nI x))) := q_ok (PR_d h x hx)
theorem PR_30 {i : Nat} {v : Int32} (h : PR K V N lx s (gs, os, p, dp, sc, n)) : PR K V N lx (mm_u s 30 i v) (gs, os, p, dp, sc, n) := by
  obtain ⟨t, ⟨a1, a2, a3, a4, a5, a6⟩, b, g, c, o⟩ := h
  have rp : ∀ {lo hi : Nat} {t : tr_}, Rp s lo hi t → Rp (mm_u s 30 i v) lo hi t := fun {lo hi t} => by
    induction t with
    | leaf => exact fun _ => trivial
    | inner k j w l r ihl ihr =>
      rintro ⟨h1, h2, ⟨e1, e2, e3, e4, e5, e6, e7, e8⟩, hp, hl, hr⟩
      have g : ∀ f x, f ≠ 30 → mm_u s 30 i v f x = s f x := fun f x hf => mu_n (by omega)
      refine ⟨h1, h2, ⟨(g _ _ (by decide)).trans e1, (g _ _ (by decide)).trans e2, (g _ _ (by decide)).trans e3, (g _ _ (by decide)).trans e4, (g _ _ (by decide)).trans e5, (g _ _ (by decide)).trans e6, (g _ _ (by decide)).trans e7, (g _ _ (by decide)).trans e8⟩, fun hk => ?_, ihl hl, ihr hr⟩
      obtain ⟨m, m1, m2, m3, m4⟩ := hp hk
      exact ⟨m, m1, m2, m3, fun j x y a b c => (g _ _ (by decide)).trans (m4 j x y a b c)⟩
  have po : ∀ {os : List tr_} {n : Nat}, PO s os n → PO (mm_u s 30 i v) os n := fun {os} => by
    induction os with
    | nil => exact fun {n} _ => trivial
    | cons t r ih =>
      intro n h
      obtain ⟨lo, a, b, c, e, nd, h⟩ := h
      exact ⟨lo, a, (mu_n (by omega)).trans b, c, rp e, nd, ih h⟩
  refine ⟨PT_fr t (mu_n (by omega)) (mu_n (by omega)) (funext fun j => mu_n (by omega)) (funext fun j => mu_n (by omega)), ⟨?_, ?_, ?_, ?_, ?_, ?_⟩, b, PG_fr (fun f j _ _ _ => mu_n (by omega)) g, PX_fr (fun f j _ _ _ => mu_n (by omega)) c, po o⟩
  all_goals (refine (mu_n (by omega)).trans ?_; assumption)
theorem q_30 {i : Nat} {v : Int32} {k : mm_S → mm_O} (h : PR K V N lx s (gs, os, p, dp, sc, n)) (hi : i < 26000) (hk : ∀ s1, PR K V N lx s1 (gs, os, p, dp, sc, n) → pq_ K V N lx r (k s1)) : pq_ K V N lx r ((mm_w 26000 30 (nI i) v s).bind k) := by
  rw [mm_w_n hi (by decide), Option.bind_some]
  exact hk _ (PR_30 h)
theorem q_leaf' {d : Nat} {kk : mm_S → mm_O} {x1 x2 a b : Int32} {k tok : Nat} (h : PR K V N lx s (gs, os, p, dp, sc, n)) (e1 : x1 = nI k) (e2 : x2 = nI tok) (e3 : b = a) (hn : n < 26000) (hk : k < 100 ∧ k ≠ 20) (ht : tok < 2 ^ 31) (hc : ∀ s1, PR K V N lx s1 (gs, lf_ k tok a n :: os, p, dp, sc, n + 1) → pq_ K V N lx r (kk s1)) : pq_ K V N lx r (mm_bV (mE (d + 2) 21 [vr_ (some 0), vi_ x1, vi_ x2, vi_ b] s) kk) := by
  subst e1 e2 e3
  exact q_leaf k tok _ h hn hk ht hc
theorem q_fl' (e : s 0 43 = nI p) (t : PT K V N lx s) : pq_ K V N lx (fl_ p) (some (some (vi_ 0), s)) := ⟨s, rfl, e, t⟩
theorem nsb1_ {x : Nat} (h : 1 ≤ x) : nI x - 1 = nI (x - 1) := nsb_ h
/-- the state with the place one on gets a name -/
theorem q_nm {x0 : Int32} {F : mm_S → mm_O} (h : PR K V N lx s (gs, os, p, dp, sc, n)) (e0 : x0 = nI p) (hp : p + 1 ≤ 4000) (hk : ∀ s1, PR K V N lx s1 (gs, os, p + 1, dp, sc, n) → pq_ K V N lx r (F s1)) : pq_ K V N lx r (F (mm_u s 0 43 (x0 + 1))) := by
  subst e0
  rw [nI_1]
  exact hk _ (PR_p h (p + 1) hp)
theorem q_34 {x0 y0 : Int32} (h : PR K V N lx s (gs, os, p, dp, sc, n)) (e0 : y0 = nI dp) (e1 : x0 = nI p) (hp : p + 1 ≤ 4000) (hd : dp ≤ 60) (h0 : dp = 60 → ∀ s1, PR K V N lx s1 (gs, os, p, dp, sc, n) → pq_ K V N lx r (some (some (vi_ 0), s1))) (h1 : dp ≠ 60 → ∀ s1, PR K V N lx s1 (gs, os, p + 1, dp + 1, sc, n) → pq_ K V N lx r (some (some (vi_ 1), s1))) : pq_ K V N lx r (if y0 < 60 then some (some (vi_ 1), mm_u (mm_u s 0 43 (x0 + 1)) 0 44 (y0 + 1)) else some (some (vi_ 0), mm_u (mm_u s 0 43 (x0 + 1)) 0 43 (x0 + 1 - 1))) := by
  subst e0 e1
  simp only [nlt1_ 60 (show dp < 2 ^ 31 by omega) (by decide), nI_1]
  by_cases hc : dp = 60
  · rw [if_neg (by omega), show (nI (p + 1) - 1 : Int32) = nI p from nI_pred p]
    exact h0 hc _ (PR_p (PR_p h (p + 1) hp) p (by omega))
  · rw [if_pos (by omega)]
    exact h1 hc _ (PR_d (PR_p h (p + 1) hp) (dp + 1) (by omega))
theorem q_takep {d x : Nat} {x0 x1 : Int32} {k : Int32 → mm_S → mm_O} (h : PR K V N lx s (gs, os, p, dp, sc, n)) (e0 : x0 = nI p) (hp : p + 1 ≤ 4000) (e : x1 = nI x) (hx : 0 < x) (hx2 : x < 2 ^ 31) (h1 : K (p + 1) = x → ∀ s1, PR K V N lx s1 (gs, os, p + 2, dp, sc, n) → pq_ K V N lx r (k 1 s1)) (h0 : K (p + 1) ≠ x → ∀ s1, PR K V N lx s1 (gs, os, p + 1, dp, sc, n) → pq_ K V N lx r (k 0 s1)) : pq_ K V N lx r (mm_bI (mE (d + 2) 27 [vr_ (some 0), vi_ x1] (mm_u s 0 43 (x0 + 1))) k) := by
  subst e e0
  rw [nI_1]
  exact q_take (PR_p h (p + 1) hp) hx hx2 h1 (fun e => h0 e _ (PR_p h (p + 1) hp))
theorem q_openp {d : Nat} {f : ps_ → pe_} {x0 : Int32} {k : Int32 → mm_S → mm_O} (h : PR K V N lx s (gs, os, p, dp, sc, n)) (e0 : x0 = nI p) (hp : p + 1 ≤ 4000) (hs : sc.length < 70) (hd : dp + 1 < 2 ^ 31) (h0 : ∀ s1, PR K V N lx s1 (gs, os, p + 1, dp, sc, n) → pq_ K V N lx (fl_ (p + 1)) (k 0 s1)) (h1 : K (p + 1) = 10 → dp ≠ 60 → ∀ s1, PR K V N lx s1 (gs, os, p + 1 + 1, dp + 1, (V (p + 1), dp) :: sc, n) → pq_ K V N lx (f (gs, os, p + 1 + 1, dp + 1, (V (p + 1), dp) :: sc, n)) (k 1 s1)) :
    pq_ K V N lx (os_ K V f (gs, os, p + 1, dp, sc, n)) (mm_bI (mE (d + 2) 30 [vr_ (some 0)] (mm_u s 0 43 (x0 + 1))) k) := by
  subst e0
  rw [nI_1]
  exact q_openq (PR_p h (p + 1) hp) hs hd (h0 _ (PR_p h (p + 1) hp)) h1
theorem q_29 {i : Nat} {v : Int32} {k : mm_S → mm_O} (h : PR K V N lx s (gs, os, p, dp, sc, n)) (e : s 29 i = v) (hi : i < 26000) (hk : ∀ s1, PR K V N lx s1 (gs, os, p, dp, sc, n) → pq_ K V N lx r (k s1)) : pq_ K V N lx r ((mm_w 26000 29 (nI i) v s).bind k) := by
  rw [mm_w_n hi (by decide), Option.bind_some, ← e, mu_id]
  exact hk _ h
theorem q_paren {d y z : Nat} {t : tr_} (h : PR K V N lx s (gs, t :: os, p, dp, sc, n)) (hn : n ≤ 26000) (hy : y < 2 ^ 31) (hz : z < 2 ^ 31) (hk : ∀ s1, PR K V N lx s1 (gs, pa_r y t :: os, p, z, sc, n) → pq_ K V N lx r (mm_bI (mE (d + 7) 27 [vr_ (some 0), vi_ 13] s1) fun v s => some (some (vi_ (v &&& 1)), s))) :
    pq_ K V N lx r ((mm_a 26000 36 ((s 0 37) - 1) s).bind fun v48 => ((mm_w 26000 35 v48 1 s).bind fun s49 => ((mm_a 26000 34 v48 s49).bind fun v50 => (if nI y < v50 then ((mm_w 26000 34 v48 (nI y) s49).bind fun s51 => (mm_bI (mE (d + 7) 27 [vr_ (some 0), vi_ 13] (mm_u s51 0 44 (nI z))) fun v53 s52 => some (some (vi_ (v53 &&& 1)), s52))) else (mm_bI (mE (d + 7) 27 [vr_ (some 0), vi_ 13] (mm_u s49 0 44 (nI z))) fun v55 s54 => some (some (vi_ (v55 &&& 1)), s54)))))) := by
  have hol := PO_len h.2.2.2.2.2
  simp only [List.length_cons] at hol
  have h36 := h.2.2.2.2.2
  obtain ⟨lo1, _, o1, ⟨rk, ri, rv, rl, rfl⟩, rR, _⟩ := h36
  have hri := rR.1
  have o1 : s 36 os.length = nI ri := o1
  have e34 : s 34 ri = nI rv.2.2.2.1 := rR.2.2.1.2.2.2.2.2.2.1
  rw [show s 0 37 = nI (os.length + 1) from PR_o h, show (nI (os.length + 1) - 1 : Int32) = nI os.length from nI_pred _, mm_a_n (by omega) (by decide), Option.bind_some, o1, mm_w_n (by omega) (by decide), Option.bind_some, mm_a_n (by omega) (by decide), Option.bind_some, show mm_u s 35 ri 1 34 ri = nI rv.2.2.2.1 from (mu_n (by omega)).trans e34]
  simp only [nlt_ hy rR.2.1.2.2.2]
  by_cases hc : y < rv.2.2.2.1
  · rw [if_pos hc, mm_w_n (by omega) (by decide), Option.bind_some]
    refine hk _ (PR_d (PR_root (s' := mm_u (mm_u s 35 ri 1) 34 ri (nI y)) (v' := (rv.1, rv.2.1, rv.2.2.1, (if y < rv.2.2.2.1 then y else rv.2.2.2.1), true)) h (fun f j hh => by rw [mu_n (by omega), mu_n (by omega)]) rfl (fun _ => rfl) ?_ ?_ ?_ ?_ rR.2.1.2.2.1 ?_) z hz)
    · rw [mu_n (by omega), mu_n (by omega)]; exact rR.2.2.1.2.2.2.2.1
    · rw [mu_n (by omega), mu_n (by omega)]; exact rR.2.2.1.2.2.2.2.2.1
    · rw [mu_s]; show _ = nI (if y < rv.2.2.2.1 then y else rv.2.2.2.1); rw [if_pos hc]
    · rw [mu_n (by omega), mu_s]; rfl
    · show (if y < rv.2.2.2.1 then y else rv.2.2.2.1) < 2 ^ 31; rw [if_pos hc]; exact hy
  · rw [if_neg hc]
    refine hk _ (PR_d (PR_root (s' := mm_u s 35 ri 1) (v' := (rv.1, rv.2.1, rv.2.2.1, (if y < rv.2.2.2.1 then y else rv.2.2.2.1), true)) h (fun f j hh => mu_n (by omega)) rfl (fun _ => rfl) ?_ ?_ ?_ ?_ rR.2.1.2.2.1 ?_) z hz)
    · rw [mu_n (by omega)]; exact rR.2.2.1.2.2.2.2.1
    · rw [mu_n (by omega)]; exact rR.2.2.1.2.2.2.2.2.1
    · rw [mu_n (by omega), e34]; show _ = nI (if y < rv.2.2.2.1 then y else rv.2.2.2.1); rw [if_neg hc]
    · rw [mu_s]; rfl
    · show (if y < rv.2.2.2.1 then y else rv.2.2.2.1) < 2 ^ 31; rw [if_neg hc]; exact rR.2.1.2.2.2
theorem q_tqy {k : Nat} {f : ps_ → pe_} {o : mm_O} (e : K p = k) (hk : pq_ K V N lx (f (gs, os, p + 1, dp, sc, n)) o) : pq_ K V N lx (tq_ K k f (gs, os, p, dp, sc, n)) o := by
  dsimp only [tq_]
  rw [if_pos e]
  exact hk
theorem q_tqn {k : Nat} {f : ps_ → pe_} {o : mm_O} (e : K p ≠ k) (hk : pq_ K V N lx (fl_ p) o) : pq_ K V N lx (tq_ K k f (gs, os, p, dp, sc, n)) o := by
  dsimp only [tq_]
  rw [if_neg e]
  exact hk
theorem n8_ (x : Nat) : 8192 * nI x + 1 = nI (8192 * x + 1) := by
  rw [nI_succ]
  exact congrArg (· + 1) (Int32.ofNat_mul 8192 x).symm
theorem lb_eq : ∀ m (os : List tr_) (p n : Nat), ∃ os' p' n', lb_ K V m (gs, os, p, dp, sc, n) = (gs, os', p', dp, sc, n')
  | 0, os, p, n => ⟨os, p, n, rfl⟩
  | m + 1, os, p, n => by
    unfold lb_
    split
    · exact lb_eq m _ _ _
    · exact ⟨os, p, n, rfl⟩
theorem q_labels' {d : Nat} {x : Int32} {k : mm_S → mm_O} (h : PR K V N lx s (gs, os, p, dp, sc, n)) (hn : n + (N - p) < 26000) (hp : p ≤ N) (hk : ∀ s1 os' p' n', lb_ K V N (gs, os, p, dp, sc, n) = (gs, os', p', dp, sc, n') → PR K V N lx s1 (gs, os', p', dp, sc, n') → pq_ K V N lx r (k s1)) : pq_ K V N lx r (mm_bV (mE (d + 3) 38 [vr_ (some 0), vi_ x] s) k) := by
  obtain ⟨os', p', n', e⟩ := lb_eq (K := K) (V := V) (gs := gs) (dp := dp) (sc := sc) N os p n
  exact q_labels h hn hp fun s1 h1 => hk s1 os' p' n' e (e ▸ h1)
theorem q_top {t : tr_} (h : PR K V N lx s (gs, t :: os, p, dp, sc, n)) (hn : n ≤ 26000) : ∃ i, mm_a 26000 36 ((s 0 37) - 1) s = some (nI i) ∧ mm_a 26000 25 (nI i) s = some (nI (kd_ t)) ∧ mm_a 26000 35 (nI i) s = some (zb_ (pr_ t)) ∧ kd_ t < 100 := by
  have hol := PO_len h.2.2.2.2.2
  simp only [List.length_cons] at hol
  have h36 := h.2.2.2.2.2
  obtain ⟨lo1, _, o1, ⟨rk, ri, rv, rl, rfl⟩, rR, _⟩ := h36
  have hri := rR.1
  have o1 : s 36 os.length = nI ri := o1
  refine ⟨ri, ?_, ?_, ?_, rR.2.1.1⟩
  · rw [show s 0 37 = nI (os.length + 1) from PR_o h, show (nI (os.length + 1) - 1 : Int32) = nI os.length from nI_pred _, mm_a_n (by omega) (by decide), o1]
  · rw [mm_a_n (by omega) (by decide), rR.2.2.1.1]; rfl
  · rw [mm_a_n (by omega) (by decide), rR.2.2.1.2.2.2.2.2.2.2]; rfl
theorem q_leafp {d : Nat} {kk : mm_S → mm_O} {x0 x1 x2 a b : Int32} {k tok : Nat} (h : PR K V N lx s (gs, os, p, dp, sc, n)) (e0 : x0 = nI p) (hp : p + 1 ≤ 4000) (e1 : x1 = nI k) (e2 : x2 = nI tok) (e3 : b = a) (hn : n < 26000) (hk : k < 100 ∧ k ≠ 20) (ht : tok < 2 ^ 31) (hc : ∀ s1, PR K V N lx s1 (gs, lf_ k tok a n :: os, p + 1, dp, sc, n + 1) → pq_ K V N lx r (kk s1)) : pq_ K V N lx r (mm_bV (mE (d + 2) 21 [vr_ (some 0), vi_ x1, vi_ x2, vi_ b] (mm_u s 0 43 (x0 + 1))) kk) := by
  subst e0 e1 e2 e3
  rw [nI_1]
  exact q_leaf k tok _ (PR_p h (p + 1) hp) hn hk ht hc
theorem pj_div_n (x k : Nat) (hx : x < 2 ^ 31) (hk : 0 < k) (hk2 : k < 2 ^ 31) : pj_div (nI x) (nI k) = some (nI (x / k)) := by
  unfold pj_div
  rw [if_neg (nI_ne0 hk hk2)]
  congr 1
  rw [← Int32.toInt_inj, Int32.toInt_div, nI_toInt hx, nI_toInt hk2, nI_toInt (Nat.lt_of_le_of_lt (Nat.div_le_self x k) hx)]
  show Int.bmod (Int.tdiv x k) _ = _
  have h2 : ((x : Int).tdiv k) = ((x / k : Nat) : Int) := rfl
  rw [h2]
  have h3 := Nat.div_le_self x k
  generalize x / k = q at h3 ⊢
  exact Int.bmod_eq_of_le (by omega) (by omega)
theorem pj_rem_n (x k : Nat) (hx : x < 2 ^ 31) (hk : 0 < k) (hk2 : k < 2 ^ 31) : pj_rem (nI x) (nI k) = some (nI (x % k)) := by
  have h := pj_div_n x k hx hk hk2
  unfold pj_div at h
  unfold pj_rem
  rw [if_neg (nI_ne0 hk hk2)] at h ⊢
  have h := Option.some.inj h
  rw [h]
  congr 1
  have e : nI (x / k) * nI k = nI (x / k * k) := (Int32.ofNat_mul _ _).symm
  rw [e, nsb_ (Nat.div_mul_le_self x k)]
  congr 1
  rw [Nat.mul_comm]
  exact Nat.sub_eq_of_eq_add' (Nat.div_add_mod x k).symm
theorem rs_lkT : ∀ {es : List tr_}, (∀ t, t ∈ es → sg_r t) → (rs_r (lkT es)).length = es.length
  | [], _ => rfl
  | t :: es, h => by
    obtain ⟨k, i, v, l, e⟩ := h t (by simp)
    subst e
    show (i :: rs_r (lkT es)).length = _
    rw [List.length_cons, rs_lkT (fun u hu => h u (List.mem_cons_of_mem _ hu)), List.length_cons]
theorem PO_sg {s : mm_S} : ∀ {os : List tr_} {n : Nat}, PO s os n → ∀ t, t ∈ os → sg_r t
  | [], _, _, t, ht => by simp at ht
  | u :: r, n, h, t, ht => by
    obtain ⟨lo, a, b, c, e, nd, h⟩ := h
    rcases List.mem_cons.mp ht with rfl | ht
    · exact c
    · exact PO_sg h t ht
/-- an assignment is made, its pairs told -/
theorem m_assign (d : Nat) {m tok base : Nat} (h : PR K V N lx s (gs, os, p, dp, sc, n)) (hn : n < 26000) (ht : tok < 2 ^ 31) (hl : os.length = base + 2 * m) (hm : m < 2 ^ 31) :
    ∃ s', mE (d + 2) 22 [vr_ (some 0), vi_ (nI 20), vi_ (nI tok), vi_ (nI base), vi_ (nI m)] s = some (some (vi_ (nI n)), s') ∧ ∃ s2, mE (d + 2) 23 [vr_ (some 0), vi_ (nI n)] s' = some (none, s2) ∧ PR K V N lx s2 (sh_ 20 tok base (nI m) (gs, os, p, dp, sc, n)) := by
  obtain ⟨s', lo0, e, fr, f24, f37, f36, po, hlo, rp, nd, f25, f26, f27, f28, f29, f33, f34, f35, hfm⟩ := m_shut d 20 tok base (nI m) h hn (by decide) ht (by omega)
  have hsg : ∀ t, t ∈ (os.take (os.length - base)).reverse → sg_r t := fun t ht => PO_sg h.2.2.2.2.2 t (List.mem_of_mem_take (List.mem_reverse.mp ht))
  have hrl : (rs_r (lkT (os.take (os.length - base)).reverse)).length = 2 * m := by
    rw [rs_lkT hsg, List.length_reverse, List.length_take]
    omega
  obtain ⟨t, ⟨a1, a2, a3, a4, a5, a6⟩, b, hG, c, o⟩ := h
  have hol := PO_len o
  refine ⟨s', e, ?_⟩
  obtain ⟨s2, w1, w2, w3, w4, w5, rp2⟩ := m_pairs_42 (d + 1) n m (lo := lo0) (hi := n) (by omega) hn hm hrl nd m 0 s' rp f29 (by omega) (fun q x y hq _ _ => by omega)
  have hp9 := m_pairs_9 (d + 1) n m rp (by omega) hn hm (by omega) f29 f27 m 0 (by omega)
  refine ⟨s2, ?_, ?_⟩
  · rw [me_pairs, mm_a_n (by omega) (by decide), Option.bind_some, f27]
    exact hp9.trans w1
  have hdl : (os.drop (os.length - base)).length = base := by rw [List.length_drop]; omega
  have go : ∀ f j, ¬ (25 ≤ f ∧ f ≤ 36) → ¬ (f = 0 ∧ (j = 24 ∨ j = 37)) → s2 f j = s f j := fun f j x y => (w2 f j (by omega)).trans (fr f j x y)
  refine ⟨PT_fr t (go _ _ (by omega) (by omega)) (go _ _ (by omega) (by omega)) (funext fun j => go _ _ (by omega) (by omega)) (funext fun j => go _ _ (by omega) (by omega)), ⟨?_, ?_, ?_, ?_, ?_, (w2 _ _ (by decide)).trans f24⟩, b, PG_fr (fun f j _ _ _ => go _ _ (by omega) (by omega)) hG, PX_fr (fun f j _ _ _ => go _ _ (by omega) (by omega)) c, lo0, by omega, ?_, ⟨_, _, _, _, rfl⟩, ?_, ?_, ?_⟩
  · exact (go _ _ (by omega) (by omega)).trans a1
  · rw [w2 _ _ (by decide), f37, List.length_cons, hdl]
  · exact (go _ _ (by omega) (by omega)).trans a3
  · exact (go _ _ (by omega) (by omega)).trans a4
  · exact (go _ _ (by omega) (by omega)).trans a5
  · rw [hdl, w2 _ _ (by decide), f36]; rfl
  · exact ⟨⟨hlo, by omega⟩, ⟨by decide, ht, show (0 : Nat) < 2 ^ 31 by decide, hfm⟩, ⟨(w2 _ _ (by decide)).trans f25, (w2 _ _ (by decide)).trans f26, (w2 _ _ (by decide)).trans f27, (w2 _ _ (by decide)).trans f28, (w2 _ _ (by decide)).trans f29, (w2 _ _ (by decide)).trans f33, (w2 _ _ (by decide)).trans f34, (w2 _ _ (by decide)).trans f35⟩, fun _ => ⟨m, hm, rfl, hrl, w5⟩, Rp_wd (Nat.le_refl _) (by omega) rp2, trivial⟩
  · show (n :: (ix_ (lkT (os.take (os.length - base)).reverse) ++ [])).Nodup
    rw [List.append_nil, List.nodup_cons]
    exact ⟨fun hc => by have := (Rp_ix rp n hc).2; omega, nd⟩
  · refine PO_fr (fun j _ => w2 _ _ (by decide)) (fun f i x y z => ?_) po
    by_cases h32 : f = 32
    · subst h32; exact w4 i (by omega)
    · exact w2 _ _ h32
set_option maxRecDepth 8000 in
set_option maxHeartbeats 1000000 in
theorem g_28 (d x y z : Nat) (h : PR K V N lx s (gs, os, p, dp, sc, n)) (hg : gs.length + 10 ≤ 9000) (hs : sc.length < 70) (hp : p ≤ N) (hn : n + (N - p) + 10 ≤ 26000) (hd : dp ≤ 60) (hx : x < 2 ^ 26) (hy : y < 2 ^ 26) (hz : z < 2 ^ 26) : pq_ K V N lx (pg_28 K V N lx x y z (gs, os, p, dp, sc, n)) (mE (d + 8) 41 [vr_ (some 0), vi_ (nI 28), vi_ (nI x), vi_ (nI y), vi_ (nI z)] s) := by
  have t2 := h.1.2.1
  have nk : ∀ q c, c < 2 ^ 31 → (nI (K q) = (OfNat.ofNat c : Int32)) = (K q = c) := fun q c hc => neq1_ c (PT_k h.1 q) hc
  have nx : ∀ c, c < 2 ^ 31 → (nI x = (OfNat.ofNat c : Int32)) = (x = c) := fun c hc => neq1_ c (by omega) hc
  have hol := PO_len h.2.2.2.2.2
  rw [me_reachE]
  refine q_tk h ?_
  rw [if_pos (by decide)]
  dsimp only [pg_28]
  repeat' first
    | with_reducible exact q_none
    | with_reducible exact q_ok (by assumption)
    | with_reducible exact q_okd (by assumption) (by omega)
    | with_reducible exact q_fl (by assumption)
    | with_reducible exact q_fl' (by assumption) (by assumption)
    | with_reducible exact q_okp (by assumption) (by omega) (PR_a (by assumption))
    | with_reducible refine q_goal' (by assumption) (by first | exact nlo_ _ | exact nsb1_ (by omega) | exact nI_1 _ | exact n8_ _ | rfl | exact PR_a (by assumption) | exact PR_o (by assumption) | exact PR_d4 (by assumption) | assumption) (by first | exact nlo_ _ | exact nsb1_ (by omega) | exact nI_1 _ | exact n8_ _ | rfl | exact PR_a (by assumption) | exact PR_o (by assumption) | exact PR_d4 (by assumption) | assumption) (by first | exact nlo_ _ | exact nsb1_ (by omega) | exact nI_1 _ | exact n8_ _ | rfl | exact PR_a (by assumption) | exact PR_o (by assumption) | exact PR_d4 (by assumption) | assumption) (by first | exact nlo_ _ | exact nsb1_ (by omega) | exact nI_1 _ | exact n8_ _ | rfl | exact PR_a (by assumption) | exact PR_o (by assumption) | exact PR_d4 (by assumption) | assumption) (by first | omega | (simp only [List.length_cons]; omega)) ⟨by first | decide | omega, by first | decide | omega, by first | decide | omega, by first | decide | omega⟩ (fun s1 h1 => ?_)
    | with_reducible refine q_goalp (by assumption) (PR_a (by assumption)) (by omega) (by first | exact nlo_ _ | exact nsb1_ (by omega) | exact nI_1 _ | exact n8_ _ | rfl | exact PR_a (by assumption) | exact PR_o (by assumption) | exact PR_d4 (by assumption) | assumption) (by first | exact nlo_ _ | exact nsb1_ (by omega) | exact nI_1 _ | exact n8_ _ | rfl | exact PR_a (by assumption) | exact PR_o (by assumption) | exact PR_d4 (by assumption) | assumption) (by first | exact nlo_ _ | exact nsb1_ (by omega) | exact nI_1 _ | exact n8_ _ | rfl | exact PR_a (by assumption) | exact PR_o (by assumption) | exact PR_d4 (by assumption) | assumption) (by first | exact nlo_ _ | exact nsb1_ (by omega) | exact nI_1 _ | exact n8_ _ | rfl | exact PR_a (by assumption) | exact PR_o (by assumption) | exact PR_d4 (by assumption) | assumption) (by first | omega | (simp only [List.length_cons]; omega)) ⟨by first | decide | omega, by first | decide | omega, by first | decide | omega, by first | decide | omega⟩ (fun s1 h1 => ?_)
    | with_reducible refine q_tk (by assumption) ?_
    | with_reducible refine q_tkp (by assumption) (PR_a (by assumption)) (by omega) (fun s1 h1 => ?_)
    | with_reducible refine q_takeq (by assumption) (by first | exact nlo_ _ | rfl) (by first | decide | omega) (by first | decide | omega) (fun hk1 s1 h1 => ?_) ?_
    | with_reducible refine q_take' (by assumption) (by first | exact nlo_ _ | rfl) (by first | decide | omega) (by first | decide | omega) (fun hk1 s1 h1 => ?_) (fun hk0 => ?_)
    | with_reducible refine q_takep (by assumption) (PR_a (by assumption)) (by omega) (by first | exact nlo_ _ | rfl) (by first | decide | omega) (by first | decide | omega) (fun hk1 s1 h1 => ?_) (fun hk0 s1 h1 => ?_)
    | with_reducible refine q_openp (by assumption) (PR_a (by assumption)) (by omega) (by omega) (by omega) (fun s1 h1 => ?_) (fun hk1 hd1 s1 h1 => ?_)
    | with_reducible refine q_deep (by assumption) (fun hd0 => ?_) (fun hd1 s1 h1 => ?_) (by omega)
    | with_reducible refine q_openq (by assumption) (by omega) (by omega) ?_ (fun hk1 hd1 s1 h1 => ?_)
    | with_reducible refine q_shutS (by assumption) (by omega) (fun s1 e1 t1 => ?_) (fun s1 p1 d1 sc1 h1 hp1 => ?_)
    | with_reducible refine q_shut' (by assumption) (by first | exact nlo_ _ | exact nsb1_ (by omega) | exact nI_1 _ | exact n8_ _ | rfl | exact PR_a (by assumption) | exact PR_o (by assumption) | exact PR_d4 (by assumption) | assumption) (by first | exact nlo_ _ | exact nsb1_ (by omega) | exact nI_1 _ | exact n8_ _ | rfl | exact PR_a (by assumption) | exact PR_o (by assumption) | exact PR_d4 (by assumption) | assumption) (by first | exact nlo_ _ | exact nsb1_ (by omega) | exact nI_1 _ | exact n8_ _ | rfl | exact PR_a (by assumption) | exact PR_o (by assumption) | exact PR_d4 (by assumption) | assumption) (by first | exact nlo_ _ | exact nsb1_ (by omega) | exact nI_1 _ | exact n8_ _ | rfl | exact PR_a (by assumption) | exact PR_o (by assumption) | exact PR_d4 (by assumption) | assumption) (by omega) (by first | decide | omega) (by first | decide | omega) (fun hb1 s1 h1 _ => ?_)
    | with_reducible refine q_leaf' (by assumption) (by first | exact nlo_ _ | exact nsb1_ (by omega) | exact nI_1 _ | exact n8_ _ | rfl | exact PR_a (by assumption) | exact PR_o (by assumption) | exact PR_d4 (by assumption) | assumption) (by first | exact nlo_ _ | exact nsb1_ (by omega) | exact nI_1 _ | exact n8_ _ | rfl | exact PR_a (by assumption) | exact PR_o (by assumption) | exact PR_d4 (by assumption) | assumption) rfl (by omega) (by decide) (by first | decide | omega) (fun s1 h1 => ?_)
    | with_reducible refine q_leafp (by assumption) (PR_a (by assumption)) (by omega) (by first | exact nlo_ _ | exact nsb1_ (by omega) | exact nI_1 _ | exact n8_ _ | rfl | exact PR_a (by assumption) | exact PR_o (by assumption) | exact PR_d4 (by assumption) | assumption) (by first | exact nlo_ _ | exact nsb1_ (by omega) | exact nI_1 _ | exact n8_ _ | rfl | exact PR_a (by assumption) | exact PR_o (by assumption) | exact PR_d4 (by assumption) | assumption) rfl (by omega) (by decide) (by first | decide | omega) (fun s1 h1 => ?_)
    | with_reducible refine q_labels' (by assumption) (by omega) (by omega) (fun s1 os1 p1 n1 el1 h1 => ?_)
    | with_reducible refine q_tqy (by assumption) ?_
    | with_reducible refine q_tqn (by assumption) ?_
    | with_reducible refine q_30 (by assumption) (by omega) (fun s1 h1 => ?_)
    | with_reducible refine q_ite (fun hk1 => ?_) (fun hk0 => ?_)
    | contradiction
    | with_reducible exact absurd (And.intro (by assumption) (by assumption)) (by assumption)
    | (exfalso; omega)
    | simp only [gpT, List.cons_append, List.nil_append, show (0 : Int32) &&& 1 = 0 from rfl, show (1 : Int32) &&& 1 = 1 from rfl, show ¬ ((1 : Int32) = 0) by decide, show ¬ ((0 : Int32) = 1) by decide, if_true, if_false, eq_self_iff_true]
    | split
set_option maxRecDepth 8000 in
set_option maxHeartbeats 1000000 in
theorem g_29 (d x y z : Nat) (h : PR K V N lx s (gs, os, p, dp, sc, n)) (hg : gs.length + 10 ≤ 9000) (hs : sc.length < 70) (hp : p ≤ N) (hn : n + (N - p) + 10 ≤ 26000) (hd : dp ≤ 60) (hx : x < 2 ^ 26) (hy : y < 2 ^ 26) (hz : z < 2 ^ 26) : pq_ K V N lx (pg_29 K V N lx x y z (gs, os, p, dp, sc, n)) (mE (d + 8) 41 [vr_ (some 0), vi_ (nI 29), vi_ (nI x), vi_ (nI y), vi_ (nI z)] s) := by
  have t2 := h.1.2.1
  have nk : ∀ q c, c < 2 ^ 31 → (nI (K q) = (OfNat.ofNat c : Int32)) = (K q = c) := fun q c hc => neq1_ c (PT_k h.1 q) hc
  have nx : ∀ c, c < 2 ^ 31 → (nI x = (OfNat.ofNat c : Int32)) = (x = c) := fun c hc => neq1_ c (by omega) hc
  have hol := PO_len h.2.2.2.2.2
  rw [me_reachE]
  refine q_tk h ?_
  rw [if_neg (by decide), if_pos (by decide)]
  dsimp only [pg_29]
  repeat' first
    | with_reducible exact q_none
    | with_reducible exact q_ok (by assumption)
    | with_reducible exact q_okd (by assumption) (by omega)
    | with_reducible exact q_fl (by assumption)
    | with_reducible exact q_fl' (by assumption) (by assumption)
    | with_reducible exact q_okp (by assumption) (by omega) (PR_a (by assumption))
    | with_reducible refine q_goal' (by assumption) (by first | exact nlo_ _ | exact nsb1_ (by omega) | exact nI_1 _ | exact n8_ _ | rfl | exact PR_a (by assumption) | exact PR_o (by assumption) | exact PR_d4 (by assumption) | assumption) (by first | exact nlo_ _ | exact nsb1_ (by omega) | exact nI_1 _ | exact n8_ _ | rfl | exact PR_a (by assumption) | exact PR_o (by assumption) | exact PR_d4 (by assumption) | assumption) (by first | exact nlo_ _ | exact nsb1_ (by omega) | exact nI_1 _ | exact n8_ _ | rfl | exact PR_a (by assumption) | exact PR_o (by assumption) | exact PR_d4 (by assumption) | assumption) (by first | exact nlo_ _ | exact nsb1_ (by omega) | exact nI_1 _ | exact n8_ _ | rfl | exact PR_a (by assumption) | exact PR_o (by assumption) | exact PR_d4 (by assumption) | assumption) (by first | omega | (simp only [List.length_cons]; omega)) ⟨by first | decide | omega, by first | decide | omega, by first | decide | omega, by first | decide | omega⟩ (fun s1 h1 => ?_)
    | with_reducible refine q_goalp (by assumption) (PR_a (by assumption)) (by omega) (by first | exact nlo_ _ | exact nsb1_ (by omega) | exact nI_1 _ | exact n8_ _ | rfl | exact PR_a (by assumption) | exact PR_o (by assumption) | exact PR_d4 (by assumption) | assumption) (by first | exact nlo_ _ | exact nsb1_ (by omega) | exact nI_1 _ | exact n8_ _ | rfl | exact PR_a (by assumption) | exact PR_o (by assumption) | exact PR_d4 (by assumption) | assumption) (by first | exact nlo_ _ | exact nsb1_ (by omega) | exact nI_1 _ | exact n8_ _ | rfl | exact PR_a (by assumption) | exact PR_o (by assumption) | exact PR_d4 (by assumption) | assumption) (by first | exact nlo_ _ | exact nsb1_ (by omega) | exact nI_1 _ | exact n8_ _ | rfl | exact PR_a (by assumption) | exact PR_o (by assumption) | exact PR_d4 (by assumption) | assumption) (by first | omega | (simp only [List.length_cons]; omega)) ⟨by first | decide | omega, by first | decide | omega, by first | decide | omega, by first | decide | omega⟩ (fun s1 h1 => ?_)
    | with_reducible refine q_tk (by assumption) ?_
    | with_reducible refine q_tkp (by assumption) (PR_a (by assumption)) (by omega) (fun s1 h1 => ?_)
    | with_reducible refine q_takeq (by assumption) (by first | exact nlo_ _ | rfl) (by first | decide | omega) (by first | decide | omega) (fun hk1 s1 h1 => ?_) ?_
    | with_reducible refine q_take' (by assumption) (by first | exact nlo_ _ | rfl) (by first | decide | omega) (by first | decide | omega) (fun hk1 s1 h1 => ?_) (fun hk0 => ?_)
    | with_reducible refine q_takep (by assumption) (PR_a (by assumption)) (by omega) (by first | exact nlo_ _ | rfl) (by first | decide | omega) (by first | decide | omega) (fun hk1 s1 h1 => ?_) (fun hk0 s1 h1 => ?_)
    | with_reducible refine q_openp (by assumption) (PR_a (by assumption)) (by omega) (by omega) (by omega) (fun s1 h1 => ?_) (fun hk1 hd1 s1 h1 => ?_)
    | with_reducible refine q_deep (by assumption) (fun hd0 => ?_) (fun hd1 s1 h1 => ?_) (by omega)
    | with_reducible refine q_openq (by assumption) (by omega) (by omega) ?_ (fun hk1 hd1 s1 h1 => ?_)
    | with_reducible refine q_shutS (by assumption) (by omega) (fun s1 e1 t1 => ?_) (fun s1 p1 d1 sc1 h1 hp1 => ?_)
    | with_reducible refine q_shut' (by assumption) (by first | exact nlo_ _ | exact nsb1_ (by omega) | exact nI_1 _ | exact n8_ _ | rfl | exact PR_a (by assumption) | exact PR_o (by assumption) | exact PR_d4 (by assumption) | assumption) (by first | exact nlo_ _ | exact nsb1_ (by omega) | exact nI_1 _ | exact n8_ _ | rfl | exact PR_a (by assumption) | exact PR_o (by assumption) | exact PR_d4 (by assumption) | assumption) (by first | exact nlo_ _ | exact nsb1_ (by omega) | exact nI_1 _ | exact n8_ _ | rfl | exact PR_a (by assumption) | exact PR_o (by assumption) | exact PR_d4 (by assumption) | assumption) (by first | exact nlo_ _ | exact nsb1_ (by omega) | exact nI_1 _ | exact n8_ _ | rfl | exact PR_a (by assumption) | exact PR_o (by assumption) | exact PR_d4 (by assumption) | assumption) (by omega) (by first | decide | omega) (by first | decide | omega) (fun hb1 s1 h1 _ => ?_)
    | with_reducible refine q_leaf' (by assumption) (by first | exact nlo_ _ | exact nsb1_ (by omega) | exact nI_1 _ | exact n8_ _ | rfl | exact PR_a (by assumption) | exact PR_o (by assumption) | exact PR_d4 (by assumption) | assumption) (by first | exact nlo_ _ | exact nsb1_ (by omega) | exact nI_1 _ | exact n8_ _ | rfl | exact PR_a (by assumption) | exact PR_o (by assumption) | exact PR_d4 (by assumption) | assumption) rfl (by omega) (by decide) (by first | decide | omega) (fun s1 h1 => ?_)
    | with_reducible refine q_leafp (by assumption) (PR_a (by assumption)) (by omega) (by first | exact nlo_ _ | exact nsb1_ (by omega) | exact nI_1 _ | exact n8_ _ | rfl | exact PR_a (by assumption) | exact PR_o (by assumption) | exact PR_d4 (by assumption) | assumption) (by first | exact nlo_ _ | exact nsb1_ (by omega) | exact nI_1 _ | exact n8_ _ | rfl | exact PR_a (by assumption) | exact PR_o (by assumption) | exact PR_d4 (by assumption) | assumption) rfl (by omega) (by decide) (by first | decide | omega) (fun s1 h1 => ?_)
    | with_reducible refine q_labels' (by assumption) (by omega) (by omega) (fun s1 os1 p1 n1 el1 h1 => ?_)
    | with_reducible refine q_tqy (by assumption) ?_
    | with_reducible refine q_tqn (by assumption) ?_
    | with_reducible refine q_30 (by assumption) (by omega) (fun s1 h1 => ?_)
    | with_reducible refine q_ite (fun hk1 => ?_) (fun hk0 => ?_)
    | contradiction
    | with_reducible exact absurd (And.intro (by assumption) (by assumption)) (by assumption)
    | (exfalso; omega)
    | simp only [fun q => nk q 36 (by decide), nx 0 (by decide), nx 1 (by decide), gpT, List.cons_append, List.nil_append, show (0 : Int32) &&& 1 = 0 from rfl, show (1 : Int32) &&& 1 = 1 from rfl, show ¬ ((1 : Int32) = 0) by decide, show ¬ ((0 : Int32) = 1) by decide, if_true, if_false, eq_self_iff_true]
    | split
set_option maxRecDepth 8000 in
set_option maxHeartbeats 1000000 in
theorem g_30 (d x y z : Nat) (h : PR K V N lx s (gs, os, p, dp, sc, n)) (hg : gs.length + 10 ≤ 9000) (hs : sc.length < 70) (hp : p ≤ N) (hn : n + (N - p) + 10 ≤ 26000) (hd : dp ≤ 60) (hx : x < 2 ^ 26) (hy : y < 2 ^ 26) (hz : z < 2 ^ 26) : pq_ K V N lx (pg_30 K V N lx x y z (gs, os, p, dp, sc, n)) (mE (d + 8) 41 [vr_ (some 0), vi_ (nI 30), vi_ (nI x), vi_ (nI y), vi_ (nI z)] s) := by
  have t2 := h.1.2.1
  have nk : ∀ q c, c < 2 ^ 31 → (nI (K q) = (OfNat.ofNat c : Int32)) = (K q = c) := fun q c hc => neq1_ c (PT_k h.1 q) hc
  have nx : ∀ c, c < 2 ^ 31 → (nI x = (OfNat.ofNat c : Int32)) = (x = c) := fun c hc => neq1_ c (by omega) hc
  have hol := PO_len h.2.2.2.2.2
  rw [me_reachE]
  refine q_tk h ?_
  rw [if_neg (by decide), if_neg (by decide), if_pos (by decide)]
  dsimp only [pg_30]
  repeat' first
    | with_reducible exact q_none
    | with_reducible exact q_ok (by assumption)
    | with_reducible exact q_okd (by assumption) (by omega)
    | with_reducible exact q_fl (by assumption)
    | with_reducible exact q_fl' (by assumption) (by assumption)
    | with_reducible exact q_okp (by assumption) (by omega) (PR_a (by assumption))
    | with_reducible refine q_goal' (by assumption) (by first | exact nlo_ _ | exact nsb1_ (by omega) | exact nI_1 _ | exact n8_ _ | rfl | exact PR_a (by assumption) | exact PR_o (by assumption) | exact PR_d4 (by assumption) | assumption) (by first | exact nlo_ _ | exact nsb1_ (by omega) | exact nI_1 _ | exact n8_ _ | rfl | exact PR_a (by assumption) | exact PR_o (by assumption) | exact PR_d4 (by assumption) | assumption) (by first | exact nlo_ _ | exact nsb1_ (by omega) | exact nI_1 _ | exact n8_ _ | rfl | exact PR_a (by assumption) | exact PR_o (by assumption) | exact PR_d4 (by assumption) | assumption) (by first | exact nlo_ _ | exact nsb1_ (by omega) | exact nI_1 _ | exact n8_ _ | rfl | exact PR_a (by assumption) | exact PR_o (by assumption) | exact PR_d4 (by assumption) | assumption) (by first | omega | (simp only [List.length_cons]; omega)) ⟨by first | decide | omega, by first | decide | omega, by first | decide | omega, by first | decide | omega⟩ (fun s1 h1 => ?_)
    | with_reducible refine q_goalp (by assumption) (PR_a (by assumption)) (by omega) (by first | exact nlo_ _ | exact nsb1_ (by omega) | exact nI_1 _ | exact n8_ _ | rfl | exact PR_a (by assumption) | exact PR_o (by assumption) | exact PR_d4 (by assumption) | assumption) (by first | exact nlo_ _ | exact nsb1_ (by omega) | exact nI_1 _ | exact n8_ _ | rfl | exact PR_a (by assumption) | exact PR_o (by assumption) | exact PR_d4 (by assumption) | assumption) (by first | exact nlo_ _ | exact nsb1_ (by omega) | exact nI_1 _ | exact n8_ _ | rfl | exact PR_a (by assumption) | exact PR_o (by assumption) | exact PR_d4 (by assumption) | assumption) (by first | exact nlo_ _ | exact nsb1_ (by omega) | exact nI_1 _ | exact n8_ _ | rfl | exact PR_a (by assumption) | exact PR_o (by assumption) | exact PR_d4 (by assumption) | assumption) (by first | omega | (simp only [List.length_cons]; omega)) ⟨by first | decide | omega, by first | decide | omega, by first | decide | omega, by first | decide | omega⟩ (fun s1 h1 => ?_)
    | with_reducible refine q_tk (by assumption) ?_
    | with_reducible refine q_tkp (by assumption) (PR_a (by assumption)) (by omega) (fun s1 h1 => ?_)
    | with_reducible refine q_takeq (by assumption) (by first | exact nlo_ _ | rfl) (by first | decide | omega) (by first | decide | omega) (fun hk1 s1 h1 => ?_) ?_
    | with_reducible refine q_take' (by assumption) (by first | exact nlo_ _ | rfl) (by first | decide | omega) (by first | decide | omega) (fun hk1 s1 h1 => ?_) (fun hk0 => ?_)
    | with_reducible refine q_takep (by assumption) (PR_a (by assumption)) (by omega) (by first | exact nlo_ _ | rfl) (by first | decide | omega) (by first | decide | omega) (fun hk1 s1 h1 => ?_) (fun hk0 s1 h1 => ?_)
    | with_reducible refine q_openp (by assumption) (PR_a (by assumption)) (by omega) (by omega) (by omega) (fun s1 h1 => ?_) (fun hk1 hd1 s1 h1 => ?_)
    | with_reducible refine q_deep (by assumption) (fun hd0 => ?_) (fun hd1 s1 h1 => ?_) (by omega)
    | with_reducible refine q_openq (by assumption) (by omega) (by omega) ?_ (fun hk1 hd1 s1 h1 => ?_)
    | with_reducible refine q_shutS (by assumption) (by omega) (fun s1 e1 t1 => ?_) (fun s1 p1 d1 sc1 h1 hp1 => ?_)
    | with_reducible refine q_shut' (by assumption) (by first | exact nlo_ _ | exact nsb1_ (by omega) | exact nI_1 _ | exact n8_ _ | rfl | exact PR_a (by assumption) | exact PR_o (by assumption) | exact PR_d4 (by assumption) | assumption) (by first | exact nlo_ _ | exact nsb1_ (by omega) | exact nI_1 _ | exact n8_ _ | rfl | exact PR_a (by assumption) | exact PR_o (by assumption) | exact PR_d4 (by assumption) | assumption) (by first | exact nlo_ _ | exact nsb1_ (by omega) | exact nI_1 _ | exact n8_ _ | rfl | exact PR_a (by assumption) | exact PR_o (by assumption) | exact PR_d4 (by assumption) | assumption) (by first | exact nlo_ _ | exact nsb1_ (by omega) | exact nI_1 _ | exact n8_ _ | rfl | exact PR_a (by assumption) | exact PR_o (by assumption) | exact PR_d4 (by assumption) | assumption) (by omega) (by first | decide | omega) (by first | decide | omega) (fun hb1 s1 h1 _ => ?_)
    | with_reducible refine q_leaf' (by assumption) (by first | exact nlo_ _ | exact nsb1_ (by omega) | exact nI_1 _ | exact n8_ _ | rfl | exact PR_a (by assumption) | exact PR_o (by assumption) | exact PR_d4 (by assumption) | assumption) (by first | exact nlo_ _ | exact nsb1_ (by omega) | exact nI_1 _ | exact n8_ _ | rfl | exact PR_a (by assumption) | exact PR_o (by assumption) | exact PR_d4 (by assumption) | assumption) rfl (by omega) (by decide) (by first | decide | omega) (fun s1 h1 => ?_)
    | with_reducible refine q_leafp (by assumption) (PR_a (by assumption)) (by omega) (by first | exact nlo_ _ | exact nsb1_ (by omega) | exact nI_1 _ | exact n8_ _ | rfl | exact PR_a (by assumption) | exact PR_o (by assumption) | exact PR_d4 (by assumption) | assumption) (by first | exact nlo_ _ | exact nsb1_ (by omega) | exact nI_1 _ | exact n8_ _ | rfl | exact PR_a (by assumption) | exact PR_o (by assumption) | exact PR_d4 (by assumption) | assumption) rfl (by omega) (by decide) (by first | decide | omega) (fun s1 h1 => ?_)
    | with_reducible refine q_labels' (by assumption) (by omega) (by omega) (fun s1 os1 p1 n1 el1 h1 => ?_)
    | with_reducible refine q_tqy (by assumption) ?_
    | with_reducible refine q_tqn (by assumption) ?_
    | with_reducible refine q_30 (by assumption) (by omega) (fun s1 h1 => ?_)
    | simp only [nlt1_ 7 (show x < 2 ^ 31 by omega) (by decide)]
    | unfold bl_
    | with_reducible refine q_ite (fun hk1 => ?_) (fun hk0 => ?_)
    | contradiction
    | with_reducible exact absurd (And.intro (by assumption) (by assumption)) (by assumption)
    | (exfalso; omega)
    | simp only [gpT, List.cons_append, List.nil_append, show (0 : Int32) &&& 1 = 0 from rfl, show (1 : Int32) &&& 1 = 1 from rfl, show ¬ ((1 : Int32) = 0) by decide, show ¬ ((0 : Int32) = 1) by decide, if_true, if_false, eq_self_iff_true]
    | split
set_option maxRecDepth 8000 in
set_option maxHeartbeats 1000000 in
theorem g_31 (d x y z : Nat) (h : PR K V N lx s (gs, os, p, dp, sc, n)) (hg : gs.length + 10 ≤ 9000) (hs : sc.length < 70) (hp : p ≤ N) (hn : n + (N - p) + 10 ≤ 26000) (hd : dp ≤ 60) (hx : x < 2 ^ 26) (hy : y < 2 ^ 26) (hz : z < 2 ^ 26) : pq_ K V N lx (pg_31 K V N lx x y z (gs, os, p, dp, sc, n)) (mE (d + 8) 41 [vr_ (some 0), vi_ (nI 31), vi_ (nI x), vi_ (nI y), vi_ (nI z)] s) := by
  have t2 := h.1.2.1
  have nk : ∀ q c, c < 2 ^ 31 → (nI (K q) = (OfNat.ofNat c : Int32)) = (K q = c) := fun q c hc => neq1_ c (PT_k h.1 q) hc
  have nx : ∀ c, c < 2 ^ 31 → (nI x = (OfNat.ofNat c : Int32)) = (x = c) := fun c hc => neq1_ c (by omega) hc
  have hol := PO_len h.2.2.2.2.2
  rw [me_reachE]
  refine q_tk h ?_
  rw [if_neg (by decide), if_neg (by decide), if_neg (by decide), if_pos (by decide)]
  dsimp only [pg_31]
  repeat' first
    | with_reducible exact q_none
    | with_reducible exact q_ok (by assumption)
    | with_reducible exact q_okd (by assumption) (by omega)
    | with_reducible exact q_fl (by assumption)
    | with_reducible exact q_fl' (by assumption) (by assumption)
    | with_reducible exact q_okp (by assumption) (by omega) (PR_a (by assumption))
    | with_reducible refine q_goal' (by assumption) (by first | exact nlo_ _ | exact nsb1_ (by omega) | exact nI_1 _ | exact n8_ _ | rfl | exact PR_a (by assumption) | exact PR_o (by assumption) | exact PR_d4 (by assumption) | assumption) (by first | exact nlo_ _ | exact nsb1_ (by omega) | exact nI_1 _ | exact n8_ _ | rfl | exact PR_a (by assumption) | exact PR_o (by assumption) | exact PR_d4 (by assumption) | assumption) (by first | exact nlo_ _ | exact nsb1_ (by omega) | exact nI_1 _ | exact n8_ _ | rfl | exact PR_a (by assumption) | exact PR_o (by assumption) | exact PR_d4 (by assumption) | assumption) (by first | exact nlo_ _ | exact nsb1_ (by omega) | exact nI_1 _ | exact n8_ _ | rfl | exact PR_a (by assumption) | exact PR_o (by assumption) | exact PR_d4 (by assumption) | assumption) (by first | omega | (simp only [List.length_cons]; omega)) ⟨by first | decide | omega, by first | decide | omega, by first | decide | omega, by first | decide | omega⟩ (fun s1 h1 => ?_)
    | with_reducible refine q_goalp (by assumption) (PR_a (by assumption)) (by omega) (by first | exact nlo_ _ | exact nsb1_ (by omega) | exact nI_1 _ | exact n8_ _ | rfl | exact PR_a (by assumption) | exact PR_o (by assumption) | exact PR_d4 (by assumption) | assumption) (by first | exact nlo_ _ | exact nsb1_ (by omega) | exact nI_1 _ | exact n8_ _ | rfl | exact PR_a (by assumption) | exact PR_o (by assumption) | exact PR_d4 (by assumption) | assumption) (by first | exact nlo_ _ | exact nsb1_ (by omega) | exact nI_1 _ | exact n8_ _ | rfl | exact PR_a (by assumption) | exact PR_o (by assumption) | exact PR_d4 (by assumption) | assumption) (by first | exact nlo_ _ | exact nsb1_ (by omega) | exact nI_1 _ | exact n8_ _ | rfl | exact PR_a (by assumption) | exact PR_o (by assumption) | exact PR_d4 (by assumption) | assumption) (by first | omega | (simp only [List.length_cons]; omega)) ⟨by first | decide | omega, by first | decide | omega, by first | decide | omega, by first | decide | omega⟩ (fun s1 h1 => ?_)
    | with_reducible refine q_tk (by assumption) ?_
    | with_reducible refine q_tkp (by assumption) (PR_a (by assumption)) (by omega) (fun s1 h1 => ?_)
    | with_reducible refine q_takeq (by assumption) (by first | exact nlo_ _ | rfl) (by first | decide | omega) (by first | decide | omega) (fun hk1 s1 h1 => ?_) ?_
    | with_reducible refine q_take' (by assumption) (by first | exact nlo_ _ | rfl) (by first | decide | omega) (by first | decide | omega) (fun hk1 s1 h1 => ?_) (fun hk0 => ?_)
    | with_reducible refine q_takep (by assumption) (PR_a (by assumption)) (by omega) (by first | exact nlo_ _ | rfl) (by first | decide | omega) (by first | decide | omega) (fun hk1 s1 h1 => ?_) (fun hk0 s1 h1 => ?_)
    | with_reducible refine q_openp (by assumption) (PR_a (by assumption)) (by omega) (by omega) (by omega) (fun s1 h1 => ?_) (fun hk1 hd1 s1 h1 => ?_)
    | with_reducible refine q_deep (by assumption) (fun hd0 => ?_) (fun hd1 s1 h1 => ?_) (by omega)
    | with_reducible refine q_openq (by assumption) (by omega) (by omega) ?_ (fun hk1 hd1 s1 h1 => ?_)
    | with_reducible refine q_shutS (by assumption) (by omega) (fun s1 e1 t1 => ?_) (fun s1 p1 d1 sc1 h1 hp1 => ?_)
    | with_reducible refine q_shut' (by assumption) (by first | exact nlo_ _ | exact nsb1_ (by omega) | exact nI_1 _ | exact n8_ _ | rfl | exact PR_a (by assumption) | exact PR_o (by assumption) | exact PR_d4 (by assumption) | assumption) (by first | exact nlo_ _ | exact nsb1_ (by omega) | exact nI_1 _ | exact n8_ _ | rfl | exact PR_a (by assumption) | exact PR_o (by assumption) | exact PR_d4 (by assumption) | assumption) (by first | exact nlo_ _ | exact nsb1_ (by omega) | exact nI_1 _ | exact n8_ _ | rfl | exact PR_a (by assumption) | exact PR_o (by assumption) | exact PR_d4 (by assumption) | assumption) (by first | exact nlo_ _ | exact nsb1_ (by omega) | exact nI_1 _ | exact n8_ _ | rfl | exact PR_a (by assumption) | exact PR_o (by assumption) | exact PR_d4 (by assumption) | assumption) (by omega) (by first | decide | omega) (by first | decide | omega) (fun hb1 s1 h1 _ => ?_)
    | with_reducible refine q_leaf' (by assumption) (by first | exact nlo_ _ | exact nsb1_ (by omega) | exact nI_1 _ | exact n8_ _ | rfl | exact PR_a (by assumption) | exact PR_o (by assumption) | exact PR_d4 (by assumption) | assumption) (by first | exact nlo_ _ | exact nsb1_ (by omega) | exact nI_1 _ | exact n8_ _ | rfl | exact PR_a (by assumption) | exact PR_o (by assumption) | exact PR_d4 (by assumption) | assumption) rfl (by omega) (by decide) (by first | decide | omega) (fun s1 h1 => ?_)
    | with_reducible refine q_leafp (by assumption) (PR_a (by assumption)) (by omega) (by first | exact nlo_ _ | exact nsb1_ (by omega) | exact nI_1 _ | exact n8_ _ | rfl | exact PR_a (by assumption) | exact PR_o (by assumption) | exact PR_d4 (by assumption) | assumption) (by first | exact nlo_ _ | exact nsb1_ (by omega) | exact nI_1 _ | exact n8_ _ | rfl | exact PR_a (by assumption) | exact PR_o (by assumption) | exact PR_d4 (by assumption) | assumption) rfl (by omega) (by decide) (by first | decide | omega) (fun s1 h1 => ?_)
    | with_reducible refine q_labels' (by assumption) (by omega) (by omega) (fun s1 os1 p1 n1 el1 h1 => ?_)
    | with_reducible refine q_tqy (by assumption) ?_
    | with_reducible refine q_tqn (by assumption) ?_
    | with_reducible refine q_30 (by assumption) (by omega) (fun s1 h1 => ?_)
    | rw [m_levelOf _ _ _ (h.1.2.2.2.1 _), bI_s]
    | simp only [neq_ (lvT_lt _) (show x < 2 ^ 31 by omega)]
    | simp only [nlt1_ 7 (show x < 2 ^ 31 by omega) (by decide)]
    | unfold bl_
    | with_reducible refine q_ite (fun hk1 => ?_) (fun hk0 => ?_)
    | contradiction
    | with_reducible exact absurd (And.intro (by assumption) (by assumption)) (by assumption)
    | (exfalso; omega)
    | simp only [gpT, List.cons_append, List.nil_append, show (0 : Int32) &&& 1 = 0 from rfl, show (1 : Int32) &&& 1 = 1 from rfl, show ¬ ((1 : Int32) = 0) by decide, show ¬ ((0 : Int32) = 1) by decide, if_true, if_false, eq_self_iff_true]
    | split
set_option maxRecDepth 8000 in
set_option maxHeartbeats 1000000 in
theorem g_32 (d x y z : Nat) (h : PR K V N lx s (gs, os, p, dp, sc, n)) (hg : gs.length + 10 ≤ 9000) (hs : sc.length < 70) (hp : p ≤ N) (hn : n + (N - p) + 10 ≤ 26000) (hd : dp ≤ 60) (hx : x < 2 ^ 26) (hy : y < 2 ^ 26) (hz : z < 2 ^ 26) : pq_ K V N lx (pg_32 K V N lx x y z (gs, os, p, dp, sc, n)) (mE (d + 8) 41 [vr_ (some 0), vi_ (nI 32), vi_ (nI x), vi_ (nI y), vi_ (nI z)] s) := by
  have t2 := h.1.2.1
  have nk : ∀ q c, c < 2 ^ 31 → (nI (K q) = (OfNat.ofNat c : Int32)) = (K q = c) := fun q c hc => neq1_ c (PT_k h.1 q) hc
  have nx : ∀ c, c < 2 ^ 31 → (nI x = (OfNat.ofNat c : Int32)) = (x = c) := fun c hc => neq1_ c (by omega) hc
  have hol := PO_len h.2.2.2.2.2
  rw [me_reachE]
  refine q_tk h ?_
  rw [if_neg (by decide), if_neg (by decide), if_neg (by decide), if_neg (by decide), if_pos (by decide)]
  dsimp only [pg_32]
  repeat' first
    | with_reducible exact q_none
    | with_reducible exact q_ok (by assumption)
    | with_reducible exact q_okd (by assumption) (by omega)
    | with_reducible exact q_fl (by assumption)
    | with_reducible exact q_fl' (by assumption) (by assumption)
    | with_reducible exact q_okp (by assumption) (by omega) (PR_a (by assumption))
    | with_reducible refine q_goal' (by assumption) (by first | exact nlo_ _ | exact nsb1_ (by omega) | exact nI_1 _ | exact n8_ _ | rfl | exact PR_a (by assumption) | exact PR_o (by assumption) | exact PR_d4 (by assumption) | assumption) (by first | exact nlo_ _ | exact nsb1_ (by omega) | exact nI_1 _ | exact n8_ _ | rfl | exact PR_a (by assumption) | exact PR_o (by assumption) | exact PR_d4 (by assumption) | assumption) (by first | exact nlo_ _ | exact nsb1_ (by omega) | exact nI_1 _ | exact n8_ _ | rfl | exact PR_a (by assumption) | exact PR_o (by assumption) | exact PR_d4 (by assumption) | assumption) (by first | exact nlo_ _ | exact nsb1_ (by omega) | exact nI_1 _ | exact n8_ _ | rfl | exact PR_a (by assumption) | exact PR_o (by assumption) | exact PR_d4 (by assumption) | assumption) (by first | omega | (simp only [List.length_cons]; omega)) ⟨by first | decide | omega, by first | decide | omega, by first | decide | omega, by first | decide | omega⟩ (fun s1 h1 => ?_)
    | with_reducible refine q_goalp (by assumption) (PR_a (by assumption)) (by omega) (by first | exact nlo_ _ | exact nsb1_ (by omega) | exact nI_1 _ | exact n8_ _ | rfl | exact PR_a (by assumption) | exact PR_o (by assumption) | exact PR_d4 (by assumption) | assumption) (by first | exact nlo_ _ | exact nsb1_ (by omega) | exact nI_1 _ | exact n8_ _ | rfl | exact PR_a (by assumption) | exact PR_o (by assumption) | exact PR_d4 (by assumption) | assumption) (by first | exact nlo_ _ | exact nsb1_ (by omega) | exact nI_1 _ | exact n8_ _ | rfl | exact PR_a (by assumption) | exact PR_o (by assumption) | exact PR_d4 (by assumption) | assumption) (by first | exact nlo_ _ | exact nsb1_ (by omega) | exact nI_1 _ | exact n8_ _ | rfl | exact PR_a (by assumption) | exact PR_o (by assumption) | exact PR_d4 (by assumption) | assumption) (by first | omega | (simp only [List.length_cons]; omega)) ⟨by first | decide | omega, by first | decide | omega, by first | decide | omega, by first | decide | omega⟩ (fun s1 h1 => ?_)
    | with_reducible refine q_tk (by assumption) ?_
    | with_reducible refine q_tkp (by assumption) (PR_a (by assumption)) (by omega) (fun s1 h1 => ?_)
    | with_reducible refine q_takeq (by assumption) (by first | exact nlo_ _ | rfl) (by first | decide | omega) (by first | decide | omega) (fun hk1 s1 h1 => ?_) ?_
    | with_reducible refine q_take' (by assumption) (by first | exact nlo_ _ | rfl) (by first | decide | omega) (by first | decide | omega) (fun hk1 s1 h1 => ?_) (fun hk0 => ?_)
    | with_reducible refine q_takep (by assumption) (PR_a (by assumption)) (by omega) (by first | exact nlo_ _ | rfl) (by first | decide | omega) (by first | decide | omega) (fun hk1 s1 h1 => ?_) (fun hk0 s1 h1 => ?_)
    | with_reducible refine q_openp (by assumption) (PR_a (by assumption)) (by omega) (by omega) (by omega) (fun s1 h1 => ?_) (fun hk1 hd1 s1 h1 => ?_)
    | with_reducible refine q_deep (by assumption) (fun hd0 => ?_) (fun hd1 s1 h1 => ?_) (by omega)
    | with_reducible refine q_openq (by assumption) (by omega) (by omega) ?_ (fun hk1 hd1 s1 h1 => ?_)
    | with_reducible refine q_shutS (by assumption) (by omega) (fun s1 e1 t1 => ?_) (fun s1 p1 d1 sc1 h1 hp1 => ?_)
    | with_reducible refine q_shut' (by assumption) (by first | exact nlo_ _ | exact nsb1_ (by omega) | exact nI_1 _ | exact n8_ _ | rfl | exact PR_a (by assumption) | exact PR_o (by assumption) | exact PR_d4 (by assumption) | assumption) (by first | exact nlo_ _ | exact nsb1_ (by omega) | exact nI_1 _ | exact n8_ _ | rfl | exact PR_a (by assumption) | exact PR_o (by assumption) | exact PR_d4 (by assumption) | assumption) (by first | exact nlo_ _ | exact nsb1_ (by omega) | exact nI_1 _ | exact n8_ _ | rfl | exact PR_a (by assumption) | exact PR_o (by assumption) | exact PR_d4 (by assumption) | assumption) (by first | exact nlo_ _ | exact nsb1_ (by omega) | exact nI_1 _ | exact n8_ _ | rfl | exact PR_a (by assumption) | exact PR_o (by assumption) | exact PR_d4 (by assumption) | assumption) (by omega) (by first | decide | omega) (by first | decide | omega) (fun hb1 s1 h1 _ => ?_)
    | with_reducible refine q_leaf' (by assumption) (by first | exact nlo_ _ | exact nsb1_ (by omega) | exact nI_1 _ | exact n8_ _ | rfl | exact PR_a (by assumption) | exact PR_o (by assumption) | exact PR_d4 (by assumption) | assumption) (by first | exact nlo_ _ | exact nsb1_ (by omega) | exact nI_1 _ | exact n8_ _ | rfl | exact PR_a (by assumption) | exact PR_o (by assumption) | exact PR_d4 (by assumption) | assumption) rfl (by omega) (by decide) (by first | decide | omega) (fun s1 h1 => ?_)
    | with_reducible refine q_leafp (by assumption) (PR_a (by assumption)) (by omega) (by first | exact nlo_ _ | exact nsb1_ (by omega) | exact nI_1 _ | exact n8_ _ | rfl | exact PR_a (by assumption) | exact PR_o (by assumption) | exact PR_d4 (by assumption) | assumption) (by first | exact nlo_ _ | exact nsb1_ (by omega) | exact nI_1 _ | exact n8_ _ | rfl | exact PR_a (by assumption) | exact PR_o (by assumption) | exact PR_d4 (by assumption) | assumption) rfl (by omega) (by decide) (by first | decide | omega) (fun s1 h1 => ?_)
    | with_reducible refine q_labels' (by assumption) (by omega) (by omega) (fun s1 os1 p1 n1 el1 h1 => ?_)
    | with_reducible refine q_tqy (by assumption) ?_
    | with_reducible refine q_tqn (by assumption) ?_
    | with_reducible refine q_30 (by assumption) (by omega) (fun s1 h1 => ?_)
    | with_reducible refine q_bin (by assumption) (by omega) (by omega) (fun σ s1 h1 => q_ok h1)
    | with_reducible refine q_ite (fun hk1 => ?_) (fun hk0 => ?_)
    | contradiction
    | with_reducible exact absurd (And.intro (by assumption) (by assumption)) (by assumption)
    | (exfalso; omega)
    | simp only [gpT, List.cons_append, List.nil_append, show (0 : Int32) &&& 1 = 0 from rfl, show (1 : Int32) &&& 1 = 1 from rfl, show ¬ ((1 : Int32) = 0) by decide, show ¬ ((0 : Int32) = 1) by decide, if_true, if_false, eq_self_iff_true]
    | split
set_option maxRecDepth 8000 in
set_option maxHeartbeats 1000000 in
theorem g_33 (d x y z : Nat) (h : PR K V N lx s (gs, os, p, dp, sc, n)) (hg : gs.length + 10 ≤ 9000) (hs : sc.length < 70) (hp : p ≤ N) (hn : n + (N - p) + 10 ≤ 26000) (hd : dp ≤ 60) (hx : x < 2 ^ 26) (hy : y < 2 ^ 26) (hz : z < 2 ^ 26) : pq_ K V N lx (pg_33 K V N lx x y z (gs, os, p, dp, sc, n)) (mE (d + 8) 41 [vr_ (some 0), vi_ (nI 33), vi_ (nI x), vi_ (nI y), vi_ (nI z)] s) := by
  have t2 := h.1.2.1
  have nk : ∀ q c, c < 2 ^ 31 → (nI (K q) = (OfNat.ofNat c : Int32)) = (K q = c) := fun q c hc => neq1_ c (PT_k h.1 q) hc
  have nx : ∀ c, c < 2 ^ 31 → (nI x = (OfNat.ofNat c : Int32)) = (x = c) := fun c hc => neq1_ c (by omega) hc
  have hol := PO_len h.2.2.2.2.2
  rw [me_reachE]
  refine q_tk h ?_
  rw [if_neg (by decide), if_neg (by decide), if_neg (by decide), if_neg (by decide), if_neg (by decide), if_pos (by decide)]
  dsimp only [pg_33]
  repeat' first
    | with_reducible exact q_none
    | with_reducible exact q_ok (by assumption)
    | with_reducible exact q_okd (by assumption) (by omega)
    | with_reducible exact q_fl (by assumption)
    | with_reducible exact q_fl' (by assumption) (by assumption)
    | with_reducible exact q_okp (by assumption) (by omega) (PR_a (by assumption))
    | with_reducible refine q_goal' (by assumption) (by first | exact nlo_ _ | exact nsb1_ (by omega) | exact nI_1 _ | exact n8_ _ | rfl | exact PR_a (by assumption) | exact PR_o (by assumption) | exact PR_d4 (by assumption) | assumption) (by first | exact nlo_ _ | exact nsb1_ (by omega) | exact nI_1 _ | exact n8_ _ | rfl | exact PR_a (by assumption) | exact PR_o (by assumption) | exact PR_d4 (by assumption) | assumption) (by first | exact nlo_ _ | exact nsb1_ (by omega) | exact nI_1 _ | exact n8_ _ | rfl | exact PR_a (by assumption) | exact PR_o (by assumption) | exact PR_d4 (by assumption) | assumption) (by first | exact nlo_ _ | exact nsb1_ (by omega) | exact nI_1 _ | exact n8_ _ | rfl | exact PR_a (by assumption) | exact PR_o (by assumption) | exact PR_d4 (by assumption) | assumption) (by first | omega | (simp only [List.length_cons]; omega)) ⟨by first | decide | omega, by first | decide | omega, by first | decide | omega, by first | decide | omega⟩ (fun s1 h1 => ?_)
    | with_reducible refine q_goalp (by assumption) (PR_a (by assumption)) (by omega) (by first | exact nlo_ _ | exact nsb1_ (by omega) | exact nI_1 _ | exact n8_ _ | rfl | exact PR_a (by assumption) | exact PR_o (by assumption) | exact PR_d4 (by assumption) | assumption) (by first | exact nlo_ _ | exact nsb1_ (by omega) | exact nI_1 _ | exact n8_ _ | rfl | exact PR_a (by assumption) | exact PR_o (by assumption) | exact PR_d4 (by assumption) | assumption) (by first | exact nlo_ _ | exact nsb1_ (by omega) | exact nI_1 _ | exact n8_ _ | rfl | exact PR_a (by assumption) | exact PR_o (by assumption) | exact PR_d4 (by assumption) | assumption) (by first | exact nlo_ _ | exact nsb1_ (by omega) | exact nI_1 _ | exact n8_ _ | rfl | exact PR_a (by assumption) | exact PR_o (by assumption) | exact PR_d4 (by assumption) | assumption) (by first | omega | (simp only [List.length_cons]; omega)) ⟨by first | decide | omega, by first | decide | omega, by first | decide | omega, by first | decide | omega⟩ (fun s1 h1 => ?_)
    | with_reducible refine q_tk (by assumption) ?_
    | with_reducible refine q_tkp (by assumption) (PR_a (by assumption)) (by omega) (fun s1 h1 => ?_)
    | with_reducible refine q_takeq (by assumption) (by first | exact nlo_ _ | rfl) (by first | decide | omega) (by first | decide | omega) (fun hk1 s1 h1 => ?_) ?_
    | with_reducible refine q_take' (by assumption) (by first | exact nlo_ _ | rfl) (by first | decide | omega) (by first | decide | omega) (fun hk1 s1 h1 => ?_) (fun hk0 => ?_)
    | with_reducible refine q_takep (by assumption) (PR_a (by assumption)) (by omega) (by first | exact nlo_ _ | rfl) (by first | decide | omega) (by first | decide | omega) (fun hk1 s1 h1 => ?_) (fun hk0 s1 h1 => ?_)
    | with_reducible refine q_openp (by assumption) (PR_a (by assumption)) (by omega) (by omega) (by omega) (fun s1 h1 => ?_) (fun hk1 hd1 s1 h1 => ?_)
    | with_reducible refine q_deep (by assumption) (fun hd0 => ?_) (fun hd1 s1 h1 => ?_) (by omega)
    | with_reducible refine q_openq (by assumption) (by omega) (by omega) ?_ (fun hk1 hd1 s1 h1 => ?_)
    | with_reducible refine q_shutS (by assumption) (by omega) (fun s1 e1 t1 => ?_) (fun s1 p1 d1 sc1 h1 hp1 => ?_)
    | with_reducible refine q_shut' (by assumption) (by first | exact nlo_ _ | exact nsb1_ (by omega) | exact nI_1 _ | exact n8_ _ | rfl | exact PR_a (by assumption) | exact PR_o (by assumption) | exact PR_d4 (by assumption) | assumption) (by first | exact nlo_ _ | exact nsb1_ (by omega) | exact nI_1 _ | exact n8_ _ | rfl | exact PR_a (by assumption) | exact PR_o (by assumption) | exact PR_d4 (by assumption) | assumption) (by first | exact nlo_ _ | exact nsb1_ (by omega) | exact nI_1 _ | exact n8_ _ | rfl | exact PR_a (by assumption) | exact PR_o (by assumption) | exact PR_d4 (by assumption) | assumption) (by first | exact nlo_ _ | exact nsb1_ (by omega) | exact nI_1 _ | exact n8_ _ | rfl | exact PR_a (by assumption) | exact PR_o (by assumption) | exact PR_d4 (by assumption) | assumption) (by omega) (by first | decide | omega) (by first | decide | omega) (fun hb1 s1 h1 _ => ?_)
    | with_reducible refine q_leaf' (by assumption) (by first | exact nlo_ _ | exact nsb1_ (by omega) | exact nI_1 _ | exact n8_ _ | rfl | exact PR_a (by assumption) | exact PR_o (by assumption) | exact PR_d4 (by assumption) | assumption) (by first | exact nlo_ _ | exact nsb1_ (by omega) | exact nI_1 _ | exact n8_ _ | rfl | exact PR_a (by assumption) | exact PR_o (by assumption) | exact PR_d4 (by assumption) | assumption) rfl (by omega) (by decide) (by first | decide | omega) (fun s1 h1 => ?_)
    | with_reducible refine q_leafp (by assumption) (PR_a (by assumption)) (by omega) (by first | exact nlo_ _ | exact nsb1_ (by omega) | exact nI_1 _ | exact n8_ _ | rfl | exact PR_a (by assumption) | exact PR_o (by assumption) | exact PR_d4 (by assumption) | assumption) (by first | exact nlo_ _ | exact nsb1_ (by omega) | exact nI_1 _ | exact n8_ _ | rfl | exact PR_a (by assumption) | exact PR_o (by assumption) | exact PR_d4 (by assumption) | assumption) rfl (by omega) (by decide) (by first | decide | omega) (fun s1 h1 => ?_)
    | with_reducible refine q_labels' (by assumption) (by omega) (by omega) (fun s1 os1 p1 n1 el1 h1 => ?_)
    | with_reducible refine q_tqy (by assumption) ?_
    | with_reducible refine q_tqn (by assumption) ?_
    | with_reducible refine q_30 (by assumption) (by omega) (fun s1 h1 => ?_)
    | rw [mj_reachE_343]
    | with_reducible refine q_ite (fun hk1 => ?_) (fun hk0 => ?_)
    | contradiction
    | with_reducible exact absurd (And.intro (by assumption) (by assumption)) (by assumption)
    | (exfalso; omega)
    | simp only [fun q => nk q 21 (by decide), fun q => nk q 22 (by decide), fun q => nk q 33 (by decide), gpT, List.cons_append, List.nil_append, show (0 : Int32) &&& 1 = 0 from rfl, show (1 : Int32) &&& 1 = 1 from rfl, show ¬ ((1 : Int32) = 0) by decide, show ¬ ((0 : Int32) = 1) by decide, if_true, if_false, eq_self_iff_true]
    | split
set_option maxRecDepth 8000 in
set_option maxHeartbeats 1000000 in
theorem g_34 (d x y z : Nat) (h : PR K V N lx s (gs, os, p, dp, sc, n)) (hg : gs.length + 10 ≤ 9000) (hs : sc.length < 70) (hp : p ≤ N) (hn : n + (N - p) + 10 ≤ 26000) (hd : dp ≤ 60) (hx : x < 2 ^ 26) (hy : y < 2 ^ 26) (hz : z < 2 ^ 26) : pq_ K V N lx (pg_34 K V N lx x y z (gs, os, p, dp, sc, n)) (mE (d + 8) 41 [vr_ (some 0), vi_ (nI 34), vi_ (nI x), vi_ (nI y), vi_ (nI z)] s) := by
  have t2 := h.1.2.1
  have nk : ∀ q c, c < 2 ^ 31 → (nI (K q) = (OfNat.ofNat c : Int32)) = (K q = c) := fun q c hc => neq1_ c (PT_k h.1 q) hc
  have nx : ∀ c, c < 2 ^ 31 → (nI x = (OfNat.ofNat c : Int32)) = (x = c) := fun c hc => neq1_ c (by omega) hc
  have hol := PO_len h.2.2.2.2.2
  rw [me_reachE]
  refine q_tk h ?_
  rw [if_neg (by decide), if_neg (by decide), if_neg (by decide), if_neg (by decide), if_neg (by decide), if_neg (by decide), if_pos (by decide)]
  dsimp only [pg_34]
  repeat' first
    | with_reducible exact q_none
    | with_reducible exact q_ok (by assumption)
    | with_reducible exact q_okd (by assumption) (by omega)
    | with_reducible exact q_fl (by assumption)
    | with_reducible exact q_fl' (by assumption) (by assumption)
    | with_reducible exact q_okp (by assumption) (by omega) (PR_a (by assumption))
    | with_reducible refine q_goal' (by assumption) (by first | exact nlo_ _ | exact nsb1_ (by omega) | exact nI_1 _ | exact n8_ _ | rfl | exact PR_a (by assumption) | exact PR_o (by assumption) | exact PR_d4 (by assumption) | assumption) (by first | exact nlo_ _ | exact nsb1_ (by omega) | exact nI_1 _ | exact n8_ _ | rfl | exact PR_a (by assumption) | exact PR_o (by assumption) | exact PR_d4 (by assumption) | assumption) (by first | exact nlo_ _ | exact nsb1_ (by omega) | exact nI_1 _ | exact n8_ _ | rfl | exact PR_a (by assumption) | exact PR_o (by assumption) | exact PR_d4 (by assumption) | assumption) (by first | exact nlo_ _ | exact nsb1_ (by omega) | exact nI_1 _ | exact n8_ _ | rfl | exact PR_a (by assumption) | exact PR_o (by assumption) | exact PR_d4 (by assumption) | assumption) (by first | omega | (simp only [List.length_cons]; omega)) ⟨by first | decide | omega, by first | decide | omega, by first | decide | omega, by first | decide | omega⟩ (fun s1 h1 => ?_)
    | with_reducible refine q_goalp (by assumption) (PR_a (by assumption)) (by omega) (by first | exact nlo_ _ | exact nsb1_ (by omega) | exact nI_1 _ | exact n8_ _ | rfl | exact PR_a (by assumption) | exact PR_o (by assumption) | exact PR_d4 (by assumption) | assumption) (by first | exact nlo_ _ | exact nsb1_ (by omega) | exact nI_1 _ | exact n8_ _ | rfl | exact PR_a (by assumption) | exact PR_o (by assumption) | exact PR_d4 (by assumption) | assumption) (by first | exact nlo_ _ | exact nsb1_ (by omega) | exact nI_1 _ | exact n8_ _ | rfl | exact PR_a (by assumption) | exact PR_o (by assumption) | exact PR_d4 (by assumption) | assumption) (by first | exact nlo_ _ | exact nsb1_ (by omega) | exact nI_1 _ | exact n8_ _ | rfl | exact PR_a (by assumption) | exact PR_o (by assumption) | exact PR_d4 (by assumption) | assumption) (by first | omega | (simp only [List.length_cons]; omega)) ⟨by first | decide | omega, by first | decide | omega, by first | decide | omega, by first | decide | omega⟩ (fun s1 h1 => ?_)
    | with_reducible refine q_tk (by assumption) ?_
    | with_reducible refine q_tkp (by assumption) (PR_a (by assumption)) (by omega) (fun s1 h1 => ?_)
    | with_reducible refine q_takeq (by assumption) (by first | exact nlo_ _ | rfl) (by first | decide | omega) (by first | decide | omega) (fun hk1 s1 h1 => ?_) ?_
    | with_reducible refine q_take' (by assumption) (by first | exact nlo_ _ | rfl) (by first | decide | omega) (by first | decide | omega) (fun hk1 s1 h1 => ?_) (fun hk0 => ?_)
    | with_reducible refine q_takep (by assumption) (PR_a (by assumption)) (by omega) (by first | exact nlo_ _ | rfl) (by first | decide | omega) (by first | decide | omega) (fun hk1 s1 h1 => ?_) (fun hk0 s1 h1 => ?_)
    | with_reducible refine q_openp (by assumption) (PR_a (by assumption)) (by omega) (by omega) (by omega) (fun s1 h1 => ?_) (fun hk1 hd1 s1 h1 => ?_)
    | with_reducible refine q_deep (by assumption) (fun hd0 => ?_) (fun hd1 s1 h1 => ?_) (by omega)
    | with_reducible refine q_openq (by assumption) (by omega) (by omega) ?_ (fun hk1 hd1 s1 h1 => ?_)
    | with_reducible refine q_shutS (by assumption) (by omega) (fun s1 e1 t1 => ?_) (fun s1 p1 d1 sc1 h1 hp1 => ?_)
    | with_reducible refine q_shut' (by assumption) (by first | exact nlo_ _ | exact nsb1_ (by omega) | exact nI_1 _ | exact n8_ _ | rfl | exact PR_a (by assumption) | exact PR_o (by assumption) | exact PR_d4 (by assumption) | assumption) (by first | exact nlo_ _ | exact nsb1_ (by omega) | exact nI_1 _ | exact n8_ _ | rfl | exact PR_a (by assumption) | exact PR_o (by assumption) | exact PR_d4 (by assumption) | assumption) (by first | exact nlo_ _ | exact nsb1_ (by omega) | exact nI_1 _ | exact n8_ _ | rfl | exact PR_a (by assumption) | exact PR_o (by assumption) | exact PR_d4 (by assumption) | assumption) (by first | exact nlo_ _ | exact nsb1_ (by omega) | exact nI_1 _ | exact n8_ _ | rfl | exact PR_a (by assumption) | exact PR_o (by assumption) | exact PR_d4 (by assumption) | assumption) (by omega) (by first | decide | omega) (by first | decide | omega) (fun hb1 s1 h1 _ => ?_)
    | with_reducible refine q_leaf' (by assumption) (by first | exact nlo_ _ | exact nsb1_ (by omega) | exact nI_1 _ | exact n8_ _ | rfl | exact PR_a (by assumption) | exact PR_o (by assumption) | exact PR_d4 (by assumption) | assumption) (by first | exact nlo_ _ | exact nsb1_ (by omega) | exact nI_1 _ | exact n8_ _ | rfl | exact PR_a (by assumption) | exact PR_o (by assumption) | exact PR_d4 (by assumption) | assumption) rfl (by omega) (by decide) (by first | decide | omega) (fun s1 h1 => ?_)
    | with_reducible refine q_leafp (by assumption) (PR_a (by assumption)) (by omega) (by first | exact nlo_ _ | exact nsb1_ (by omega) | exact nI_1 _ | exact n8_ _ | rfl | exact PR_a (by assumption) | exact PR_o (by assumption) | exact PR_d4 (by assumption) | assumption) (by first | exact nlo_ _ | exact nsb1_ (by omega) | exact nI_1 _ | exact n8_ _ | rfl | exact PR_a (by assumption) | exact PR_o (by assumption) | exact PR_d4 (by assumption) | assumption) rfl (by omega) (by decide) (by first | decide | omega) (fun s1 h1 => ?_)
    | with_reducible refine q_labels' (by assumption) (by omega) (by omega) (fun s1 os1 p1 n1 el1 h1 => ?_)
    | with_reducible refine q_tqy (by assumption) ?_
    | with_reducible refine q_tqn (by assumption) ?_
    | with_reducible refine q_30 (by assumption) (by omega) (fun s1 h1 => ?_)
    | rw [mj_reachE_451]
    | with_reducible refine q_34 (by assumption) (PR_d4 (by assumption)) (PR_a (by assumption)) (by omega) (by omega) (fun hd0 s1 h1 => ?_) (fun hd1 s1 h1 => ?_)
    | with_reducible refine q_ite (fun hk1 => ?_) (fun hk0 => ?_)
    | contradiction
    | with_reducible exact absurd (And.intro (by assumption) (by assumption)) (by assumption)
    | (exfalso; omega)
    | simp only [fun q => nk q 18 (by decide), fun q => nk q 20 (by decide), gpT, List.cons_append, List.nil_append, show (0 : Int32) &&& 1 = 0 from rfl, show (1 : Int32) &&& 1 = 1 from rfl, show ¬ ((1 : Int32) = 0) by decide, show ¬ ((0 : Int32) = 1) by decide, if_true, if_false, eq_self_iff_true]
    | split
set_option maxRecDepth 8000 in
set_option maxHeartbeats 1000000 in
theorem g_35 (d x y z : Nat) (h : PR K V N lx s (gs, os, p, dp, sc, n)) (hg : gs.length + 10 ≤ 9000) (hs : sc.length < 70) (hp : p ≤ N) (hn : n + (N - p) + 10 ≤ 26000) (hd : dp ≤ 60) (hx : x < 2 ^ 26) (hy : y < 2 ^ 26) (hz : z < 2 ^ 26) : pq_ K V N lx (pg_35 K V N lx x y z (gs, os, p, dp, sc, n)) (mE (d + 8) 41 [vr_ (some 0), vi_ (nI 35), vi_ (nI x), vi_ (nI y), vi_ (nI z)] s) := by
  have t2 := h.1.2.1
  have nk : ∀ q c, c < 2 ^ 31 → (nI (K q) = (OfNat.ofNat c : Int32)) = (K q = c) := fun q c hc => neq1_ c (PT_k h.1 q) hc
  have nx : ∀ c, c < 2 ^ 31 → (nI x = (OfNat.ofNat c : Int32)) = (x = c) := fun c hc => neq1_ c (by omega) hc
  have hol := PO_len h.2.2.2.2.2
  rw [me_reachE]
  refine q_tk h ?_
  rw [if_neg (by decide), if_neg (by decide), if_neg (by decide), if_neg (by decide), if_neg (by decide), if_neg (by decide), if_neg (by decide), if_pos (by decide)]
  dsimp only [pg_35]
  repeat' first
    | with_reducible exact q_none
    | with_reducible exact q_ok (by assumption)
    | with_reducible exact q_okd (by assumption) (by omega)
    | with_reducible exact q_fl (by assumption)
    | with_reducible exact q_fl' (by assumption) (by assumption)
    | with_reducible exact q_okp (by assumption) (by omega) (PR_a (by assumption))
    | with_reducible refine q_goal' (by assumption) (by first | exact nlo_ _ | exact nsb1_ (by omega) | exact nI_1 _ | exact n8_ _ | rfl | exact PR_a (by assumption) | exact PR_o (by assumption) | exact PR_d4 (by assumption) | assumption) (by first | exact nlo_ _ | exact nsb1_ (by omega) | exact nI_1 _ | exact n8_ _ | rfl | exact PR_a (by assumption) | exact PR_o (by assumption) | exact PR_d4 (by assumption) | assumption) (by first | exact nlo_ _ | exact nsb1_ (by omega) | exact nI_1 _ | exact n8_ _ | rfl | exact PR_a (by assumption) | exact PR_o (by assumption) | exact PR_d4 (by assumption) | assumption) (by first | exact nlo_ _ | exact nsb1_ (by omega) | exact nI_1 _ | exact n8_ _ | rfl | exact PR_a (by assumption) | exact PR_o (by assumption) | exact PR_d4 (by assumption) | assumption) (by first | omega | (simp only [List.length_cons]; omega)) ⟨by first | decide | omega, by first | decide | omega, by first | decide | omega, by first | decide | omega⟩ (fun s1 h1 => ?_)
    | with_reducible refine q_goalp (by assumption) (PR_a (by assumption)) (by omega) (by first | exact nlo_ _ | exact nsb1_ (by omega) | exact nI_1 _ | exact n8_ _ | rfl | exact PR_a (by assumption) | exact PR_o (by assumption) | exact PR_d4 (by assumption) | assumption) (by first | exact nlo_ _ | exact nsb1_ (by omega) | exact nI_1 _ | exact n8_ _ | rfl | exact PR_a (by assumption) | exact PR_o (by assumption) | exact PR_d4 (by assumption) | assumption) (by first | exact nlo_ _ | exact nsb1_ (by omega) | exact nI_1 _ | exact n8_ _ | rfl | exact PR_a (by assumption) | exact PR_o (by assumption) | exact PR_d4 (by assumption) | assumption) (by first | exact nlo_ _ | exact nsb1_ (by omega) | exact nI_1 _ | exact n8_ _ | rfl | exact PR_a (by assumption) | exact PR_o (by assumption) | exact PR_d4 (by assumption) | assumption) (by first | omega | (simp only [List.length_cons]; omega)) ⟨by first | decide | omega, by first | decide | omega, by first | decide | omega, by first | decide | omega⟩ (fun s1 h1 => ?_)
    | with_reducible refine q_tk (by assumption) ?_
    | with_reducible refine q_tkp (by assumption) (PR_a (by assumption)) (by omega) (fun s1 h1 => ?_)
    | with_reducible refine q_takeq (by assumption) (by first | exact nlo_ _ | rfl) (by first | decide | omega) (by first | decide | omega) (fun hk1 s1 h1 => ?_) ?_
    | with_reducible refine q_take' (by assumption) (by first | exact nlo_ _ | rfl) (by first | decide | omega) (by first | decide | omega) (fun hk1 s1 h1 => ?_) (fun hk0 => ?_)
    | with_reducible refine q_takep (by assumption) (PR_a (by assumption)) (by omega) (by first | exact nlo_ _ | rfl) (by first | decide | omega) (by first | decide | omega) (fun hk1 s1 h1 => ?_) (fun hk0 s1 h1 => ?_)
    | with_reducible refine q_openp (by assumption) (PR_a (by assumption)) (by omega) (by omega) (by omega) (fun s1 h1 => ?_) (fun hk1 hd1 s1 h1 => ?_)
    | with_reducible refine q_deep (by assumption) (fun hd0 => ?_) (fun hd1 s1 h1 => ?_) (by omega)
    | with_reducible refine q_openq (by assumption) (by omega) (by omega) ?_ (fun hk1 hd1 s1 h1 => ?_)
    | with_reducible refine q_shutS (by assumption) (by omega) (fun s1 e1 t1 => ?_) (fun s1 p1 d1 sc1 h1 hp1 => ?_)
    | with_reducible refine q_shut' (by assumption) (by first | exact nlo_ _ | exact nsb1_ (by omega) | exact nI_1 _ | exact n8_ _ | rfl | exact PR_a (by assumption) | exact PR_o (by assumption) | exact PR_d4 (by assumption) | assumption) (by first | exact nlo_ _ | exact nsb1_ (by omega) | exact nI_1 _ | exact n8_ _ | rfl | exact PR_a (by assumption) | exact PR_o (by assumption) | exact PR_d4 (by assumption) | assumption) (by first | exact nlo_ _ | exact nsb1_ (by omega) | exact nI_1 _ | exact n8_ _ | rfl | exact PR_a (by assumption) | exact PR_o (by assumption) | exact PR_d4 (by assumption) | assumption) (by first | exact nlo_ _ | exact nsb1_ (by omega) | exact nI_1 _ | exact n8_ _ | rfl | exact PR_a (by assumption) | exact PR_o (by assumption) | exact PR_d4 (by assumption) | assumption) (by omega) (by first | decide | omega) (by first | decide | omega) (fun hb1 s1 h1 _ => ?_)
    | with_reducible refine q_leaf' (by assumption) (by first | exact nlo_ _ | exact nsb1_ (by omega) | exact nI_1 _ | exact n8_ _ | rfl | exact PR_a (by assumption) | exact PR_o (by assumption) | exact PR_d4 (by assumption) | assumption) (by first | exact nlo_ _ | exact nsb1_ (by omega) | exact nI_1 _ | exact n8_ _ | rfl | exact PR_a (by assumption) | exact PR_o (by assumption) | exact PR_d4 (by assumption) | assumption) rfl (by omega) (by decide) (by first | decide | omega) (fun s1 h1 => ?_)
    | with_reducible refine q_leafp (by assumption) (PR_a (by assumption)) (by omega) (by first | exact nlo_ _ | exact nsb1_ (by omega) | exact nI_1 _ | exact n8_ _ | rfl | exact PR_a (by assumption) | exact PR_o (by assumption) | exact PR_d4 (by assumption) | assumption) (by first | exact nlo_ _ | exact nsb1_ (by omega) | exact nI_1 _ | exact n8_ _ | rfl | exact PR_a (by assumption) | exact PR_o (by assumption) | exact PR_d4 (by assumption) | assumption) rfl (by omega) (by decide) (by first | decide | omega) (fun s1 h1 => ?_)
    | with_reducible refine q_labels' (by assumption) (by omega) (by omega) (fun s1 os1 p1 n1 el1 h1 => ?_)
    | with_reducible refine q_tqy (by assumption) ?_
    | with_reducible refine q_tqn (by assumption) ?_
    | with_reducible refine q_30 (by assumption) (by omega) (fun s1 h1 => ?_)
    | rw [mj_reachE_569]
    | with_reducible refine q_ite (fun hk1 => ?_) (fun hk0 => ?_)
    | contradiction
    | with_reducible exact absurd (And.intro (by assumption) (by assumption)) (by assumption)
    | (exfalso; omega)
    | simp only [fun q => nk q 18 (by decide), fun q => nk q 19 (by decide), gpT, List.cons_append, List.nil_append, show (0 : Int32) &&& 1 = 0 from rfl, show (1 : Int32) &&& 1 = 1 from rfl, show ¬ ((1 : Int32) = 0) by decide, show ¬ ((0 : Int32) = 1) by decide, if_true, if_false, eq_self_iff_true]
    | split
set_option maxRecDepth 8000 in
set_option maxHeartbeats 1000000 in
theorem g_36 (d x y z : Nat) (h : PR K V N lx s (gs, os, p, dp, sc, n)) (hg : gs.length + 10 ≤ 9000) (hs : sc.length < 70) (hp : p ≤ N) (hn : n + (N - p) + 10 ≤ 26000) (hd : dp ≤ 60) (hx : x < 2 ^ 26) (hy : y < 2 ^ 26) (hz : z < 2 ^ 26) : pq_ K V N lx (pg_36 K V N lx x y z (gs, os, p, dp, sc, n)) (mE (d + 8) 41 [vr_ (some 0), vi_ (nI 36), vi_ (nI x), vi_ (nI y), vi_ (nI z)] s) := by
  have t2 := h.1.2.1
  have nk : ∀ q c, c < 2 ^ 31 → (nI (K q) = (OfNat.ofNat c : Int32)) = (K q = c) := fun q c hc => neq1_ c (PT_k h.1 q) hc
  have nx : ∀ c, c < 2 ^ 31 → (nI x = (OfNat.ofNat c : Int32)) = (x = c) := fun c hc => neq1_ c (by omega) hc
  have hol := PO_len h.2.2.2.2.2
  rw [me_reachE]
  refine q_tk h ?_
  rw [if_neg (by decide), if_neg (by decide), if_neg (by decide), if_neg (by decide), if_neg (by decide), if_neg (by decide), if_neg (by decide), if_neg (by decide), if_pos (by decide)]
  dsimp only [pg_36]
  repeat' first
    | with_reducible exact q_none
    | with_reducible exact q_ok (by assumption)
    | with_reducible exact q_okd (by assumption) (by omega)
    | with_reducible exact q_fl (by assumption)
    | with_reducible exact q_fl' (by assumption) (by assumption)
    | with_reducible exact q_okp (by assumption) (by omega) (PR_a (by assumption))
    | with_reducible refine q_goal' (by assumption) (by first | exact nlo_ _ | exact nsb1_ (by omega) | exact nI_1 _ | exact n8_ _ | rfl | exact PR_a (by assumption) | exact PR_o (by assumption) | exact PR_d4 (by assumption) | assumption) (by first | exact nlo_ _ | exact nsb1_ (by omega) | exact nI_1 _ | exact n8_ _ | rfl | exact PR_a (by assumption) | exact PR_o (by assumption) | exact PR_d4 (by assumption) | assumption) (by first | exact nlo_ _ | exact nsb1_ (by omega) | exact nI_1 _ | exact n8_ _ | rfl | exact PR_a (by assumption) | exact PR_o (by assumption) | exact PR_d4 (by assumption) | assumption) (by first | exact nlo_ _ | exact nsb1_ (by omega) | exact nI_1 _ | exact n8_ _ | rfl | exact PR_a (by assumption) | exact PR_o (by assumption) | exact PR_d4 (by assumption) | assumption) (by first | omega | (simp only [List.length_cons]; omega)) ⟨by first | decide | omega, by first | decide | omega, by first | decide | omega, by first | decide | omega⟩ (fun s1 h1 => ?_)
    | with_reducible refine q_goalp (by assumption) (PR_a (by assumption)) (by omega) (by first | exact nlo_ _ | exact nsb1_ (by omega) | exact nI_1 _ | exact n8_ _ | rfl | exact PR_a (by assumption) | exact PR_o (by assumption) | exact PR_d4 (by assumption) | assumption) (by first | exact nlo_ _ | exact nsb1_ (by omega) | exact nI_1 _ | exact n8_ _ | rfl | exact PR_a (by assumption) | exact PR_o (by assumption) | exact PR_d4 (by assumption) | assumption) (by first | exact nlo_ _ | exact nsb1_ (by omega) | exact nI_1 _ | exact n8_ _ | rfl | exact PR_a (by assumption) | exact PR_o (by assumption) | exact PR_d4 (by assumption) | assumption) (by first | exact nlo_ _ | exact nsb1_ (by omega) | exact nI_1 _ | exact n8_ _ | rfl | exact PR_a (by assumption) | exact PR_o (by assumption) | exact PR_d4 (by assumption) | assumption) (by first | omega | (simp only [List.length_cons]; omega)) ⟨by first | decide | omega, by first | decide | omega, by first | decide | omega, by first | decide | omega⟩ (fun s1 h1 => ?_)
    | with_reducible refine q_tk (by assumption) ?_
    | with_reducible refine q_tkp (by assumption) (PR_a (by assumption)) (by omega) (fun s1 h1 => ?_)
    | with_reducible refine q_takeq (by assumption) (by first | exact nlo_ _ | rfl) (by first | decide | omega) (by first | decide | omega) (fun hk1 s1 h1 => ?_) ?_
    | with_reducible refine q_take' (by assumption) (by first | exact nlo_ _ | rfl) (by first | decide | omega) (by first | decide | omega) (fun hk1 s1 h1 => ?_) (fun hk0 => ?_)
    | with_reducible refine q_takep (by assumption) (PR_a (by assumption)) (by omega) (by first | exact nlo_ _ | rfl) (by first | decide | omega) (by first | decide | omega) (fun hk1 s1 h1 => ?_) (fun hk0 s1 h1 => ?_)
    | with_reducible refine q_openp (by assumption) (PR_a (by assumption)) (by omega) (by omega) (by omega) (fun s1 h1 => ?_) (fun hk1 hd1 s1 h1 => ?_)
    | with_reducible refine q_deep (by assumption) (fun hd0 => ?_) (fun hd1 s1 h1 => ?_) (by omega)
    | with_reducible refine q_openq (by assumption) (by omega) (by omega) ?_ (fun hk1 hd1 s1 h1 => ?_)
    | with_reducible refine q_shutS (by assumption) (by omega) (fun s1 e1 t1 => ?_) (fun s1 p1 d1 sc1 h1 hp1 => ?_)
    | with_reducible refine q_shut' (by assumption) (by first | exact nlo_ _ | exact nsb1_ (by omega) | exact nI_1 _ | exact n8_ _ | rfl | exact PR_a (by assumption) | exact PR_o (by assumption) | exact PR_d4 (by assumption) | assumption) (by first | exact nlo_ _ | exact nsb1_ (by omega) | exact nI_1 _ | exact n8_ _ | rfl | exact PR_a (by assumption) | exact PR_o (by assumption) | exact PR_d4 (by assumption) | assumption) (by first | exact nlo_ _ | exact nsb1_ (by omega) | exact nI_1 _ | exact n8_ _ | rfl | exact PR_a (by assumption) | exact PR_o (by assumption) | exact PR_d4 (by assumption) | assumption) (by first | exact nlo_ _ | exact nsb1_ (by omega) | exact nI_1 _ | exact n8_ _ | rfl | exact PR_a (by assumption) | exact PR_o (by assumption) | exact PR_d4 (by assumption) | assumption) (by omega) (by first | decide | omega) (by first | decide | omega) (fun hb1 s1 h1 _ => ?_)
    | with_reducible refine q_leaf' (by assumption) (by first | exact nlo_ _ | exact nsb1_ (by omega) | exact nI_1 _ | exact n8_ _ | rfl | exact PR_a (by assumption) | exact PR_o (by assumption) | exact PR_d4 (by assumption) | assumption) (by first | exact nlo_ _ | exact nsb1_ (by omega) | exact nI_1 _ | exact n8_ _ | rfl | exact PR_a (by assumption) | exact PR_o (by assumption) | exact PR_d4 (by assumption) | assumption) rfl (by omega) (by decide) (by first | decide | omega) (fun s1 h1 => ?_)
    | with_reducible refine q_leafp (by assumption) (PR_a (by assumption)) (by omega) (by first | exact nlo_ _ | exact nsb1_ (by omega) | exact nI_1 _ | exact n8_ _ | rfl | exact PR_a (by assumption) | exact PR_o (by assumption) | exact PR_d4 (by assumption) | assumption) (by first | exact nlo_ _ | exact nsb1_ (by omega) | exact nI_1 _ | exact n8_ _ | rfl | exact PR_a (by assumption) | exact PR_o (by assumption) | exact PR_d4 (by assumption) | assumption) rfl (by omega) (by decide) (by first | decide | omega) (fun s1 h1 => ?_)
    | with_reducible refine q_labels' (by assumption) (by omega) (by omega) (fun s1 os1 p1 n1 el1 h1 => ?_)
    | with_reducible refine q_tqy (by assumption) ?_
    | with_reducible refine q_tqn (by assumption) ?_
    | with_reducible refine q_30 (by assumption) (by omega) (fun s1 h1 => ?_)
    | rw [mj_reachE_641]
    | with_reducible refine q_ite (fun hk1 => ?_) (fun hk0 => ?_)
    | contradiction
    | with_reducible exact absurd (And.intro (by assumption) (by assumption)) (by assumption)
    | (exfalso; omega)
    | simp only [fun q => nk q 18 (by decide), fun q => nk q 20 (by decide), gpT, List.cons_append, List.nil_append, show (0 : Int32) &&& 1 = 0 from rfl, show (1 : Int32) &&& 1 = 1 from rfl, show ¬ ((1 : Int32) = 0) by decide, show ¬ ((0 : Int32) = 1) by decide, if_true, if_false, eq_self_iff_true]
    | split
set_option maxRecDepth 8000 in
set_option maxHeartbeats 1000000 in
theorem g_37 (d x y z : Nat) (h : PR K V N lx s (gs, os, p, dp, sc, n)) (hg : gs.length + 10 ≤ 9000) (hs : sc.length < 70) (hp : p ≤ N) (hn : n + (N - p) + 10 ≤ 26000) (hd : dp ≤ 60) (hx : x < 2 ^ 26) (hy : y < 2 ^ 26) (hz : z < 2 ^ 26) : pq_ K V N lx (pg_37 K V N lx x y z (gs, os, p, dp, sc, n)) (mE (d + 8) 41 [vr_ (some 0), vi_ (nI 37), vi_ (nI x), vi_ (nI y), vi_ (nI z)] s) := by
  have t2 := h.1.2.1
  have nk : ∀ q c, c < 2 ^ 31 → (nI (K q) = (OfNat.ofNat c : Int32)) = (K q = c) := fun q c hc => neq1_ c (PT_k h.1 q) hc
  have nx : ∀ c, c < 2 ^ 31 → (nI x = (OfNat.ofNat c : Int32)) = (x = c) := fun c hc => neq1_ c (by omega) hc
  have hol := PO_len h.2.2.2.2.2
  rw [me_reachE]
  refine q_tk h ?_
  rw [if_neg (by decide), if_neg (by decide), if_neg (by decide), if_neg (by decide), if_neg (by decide), if_neg (by decide), if_neg (by decide), if_neg (by decide), if_neg (by decide), if_pos (by decide)]
  dsimp only [pg_37]
  repeat' first
    | with_reducible exact q_none
    | with_reducible exact q_ok (by assumption)
    | with_reducible exact q_okd (by assumption) (by omega)
    | with_reducible exact q_fl (by assumption)
    | with_reducible exact q_fl' (by assumption) (by assumption)
    | with_reducible exact q_okp (by assumption) (by omega) (PR_a (by assumption))
    | with_reducible refine q_goal' (by assumption) (by first | exact nlo_ _ | exact nsb1_ (by omega) | exact nI_1 _ | exact n8_ _ | rfl | exact PR_a (by assumption) | exact PR_o (by assumption) | exact PR_d4 (by assumption) | assumption) (by first | exact nlo_ _ | exact nsb1_ (by omega) | exact nI_1 _ | exact n8_ _ | rfl | exact PR_a (by assumption) | exact PR_o (by assumption) | exact PR_d4 (by assumption) | assumption) (by first | exact nlo_ _ | exact nsb1_ (by omega) | exact nI_1 _ | exact n8_ _ | rfl | exact PR_a (by assumption) | exact PR_o (by assumption) | exact PR_d4 (by assumption) | assumption) (by first | exact nlo_ _ | exact nsb1_ (by omega) | exact nI_1 _ | exact n8_ _ | rfl | exact PR_a (by assumption) | exact PR_o (by assumption) | exact PR_d4 (by assumption) | assumption) (by first | omega | (simp only [List.length_cons]; omega)) ⟨by first | decide | omega, by first | decide | omega, by first | decide | omega, by first | decide | omega⟩ (fun s1 h1 => ?_)
    | with_reducible refine q_goalp (by assumption) (PR_a (by assumption)) (by omega) (by first | exact nlo_ _ | exact nsb1_ (by omega) | exact nI_1 _ | exact n8_ _ | rfl | exact PR_a (by assumption) | exact PR_o (by assumption) | exact PR_d4 (by assumption) | assumption) (by first | exact nlo_ _ | exact nsb1_ (by omega) | exact nI_1 _ | exact n8_ _ | rfl | exact PR_a (by assumption) | exact PR_o (by assumption) | exact PR_d4 (by assumption) | assumption) (by first | exact nlo_ _ | exact nsb1_ (by omega) | exact nI_1 _ | exact n8_ _ | rfl | exact PR_a (by assumption) | exact PR_o (by assumption) | exact PR_d4 (by assumption) | assumption) (by first | exact nlo_ _ | exact nsb1_ (by omega) | exact nI_1 _ | exact n8_ _ | rfl | exact PR_a (by assumption) | exact PR_o (by assumption) | exact PR_d4 (by assumption) | assumption) (by first | omega | (simp only [List.length_cons]; omega)) ⟨by first | decide | omega, by first | decide | omega, by first | decide | omega, by first | decide | omega⟩ (fun s1 h1 => ?_)
    | with_reducible refine q_tk (by assumption) ?_
    | with_reducible refine q_tkp (by assumption) (PR_a (by assumption)) (by omega) (fun s1 h1 => ?_)
    | with_reducible refine q_takeq (by assumption) (by first | exact nlo_ _ | rfl) (by first | decide | omega) (by first | decide | omega) (fun hk1 s1 h1 => ?_) ?_
    | with_reducible refine q_take' (by assumption) (by first | exact nlo_ _ | rfl) (by first | decide | omega) (by first | decide | omega) (fun hk1 s1 h1 => ?_) (fun hk0 => ?_)
    | with_reducible refine q_takep (by assumption) (PR_a (by assumption)) (by omega) (by first | exact nlo_ _ | rfl) (by first | decide | omega) (by first | decide | omega) (fun hk1 s1 h1 => ?_) (fun hk0 s1 h1 => ?_)
    | with_reducible refine q_openp (by assumption) (PR_a (by assumption)) (by omega) (by omega) (by omega) (fun s1 h1 => ?_) (fun hk1 hd1 s1 h1 => ?_)
    | with_reducible refine q_deep (by assumption) (fun hd0 => ?_) (fun hd1 s1 h1 => ?_) (by omega)
    | with_reducible refine q_openq (by assumption) (by omega) (by omega) ?_ (fun hk1 hd1 s1 h1 => ?_)
    | with_reducible refine q_shutS (by assumption) (by omega) (fun s1 e1 t1 => ?_) (fun s1 p1 d1 sc1 h1 hp1 => ?_)
    | with_reducible refine q_shut' (by assumption) (by first | exact nlo_ _ | exact nsb1_ (by omega) | exact nI_1 _ | exact n8_ _ | rfl | exact PR_a (by assumption) | exact PR_o (by assumption) | exact PR_d4 (by assumption) | assumption) (by first | exact nlo_ _ | exact nsb1_ (by omega) | exact nI_1 _ | exact n8_ _ | rfl | exact PR_a (by assumption) | exact PR_o (by assumption) | exact PR_d4 (by assumption) | assumption) (by first | exact nlo_ _ | exact nsb1_ (by omega) | exact nI_1 _ | exact n8_ _ | rfl | exact PR_a (by assumption) | exact PR_o (by assumption) | exact PR_d4 (by assumption) | assumption) (by first | exact nlo_ _ | exact nsb1_ (by omega) | exact nI_1 _ | exact n8_ _ | rfl | exact PR_a (by assumption) | exact PR_o (by assumption) | exact PR_d4 (by assumption) | assumption) (by omega) (by first | decide | omega) (by first | decide | omega) (fun hb1 s1 h1 _ => ?_)
    | with_reducible refine q_leaf' (by assumption) (by first | exact nlo_ _ | exact nsb1_ (by omega) | exact nI_1 _ | exact n8_ _ | rfl | exact PR_a (by assumption) | exact PR_o (by assumption) | exact PR_d4 (by assumption) | assumption) (by first | exact nlo_ _ | exact nsb1_ (by omega) | exact nI_1 _ | exact n8_ _ | rfl | exact PR_a (by assumption) | exact PR_o (by assumption) | exact PR_d4 (by assumption) | assumption) rfl (by omega) (by decide) (by first | decide | omega) (fun s1 h1 => ?_)
    | with_reducible refine q_leafp (by assumption) (PR_a (by assumption)) (by omega) (by first | exact nlo_ _ | exact nsb1_ (by omega) | exact nI_1 _ | exact n8_ _ | rfl | exact PR_a (by assumption) | exact PR_o (by assumption) | exact PR_d4 (by assumption) | assumption) (by first | exact nlo_ _ | exact nsb1_ (by omega) | exact nI_1 _ | exact n8_ _ | rfl | exact PR_a (by assumption) | exact PR_o (by assumption) | exact PR_d4 (by assumption) | assumption) rfl (by omega) (by decide) (by first | decide | omega) (fun s1 h1 => ?_)
    | with_reducible refine q_labels' (by assumption) (by omega) (by omega) (fun s1 os1 p1 n1 el1 h1 => ?_)
    | with_reducible refine q_tqy (by assumption) ?_
    | with_reducible refine q_tqn (by assumption) ?_
    | with_reducible refine q_30 (by assumption) (by omega) (fun s1 h1 => ?_)
    | with_reducible refine q_ret ?_
    | rw [me_calls]
    | rw [mm_a_n (by omega) (by decide), Option.bind_some, (h.1.2.2.1 y (by assumption)).1]
    | with_reducible refine q_29 (by assumption) (by assumption) (by omega) (fun s1 h1 => ?_)
    | with_reducible refine q_ite (fun hk1 => ?_) (fun hk0 => ?_)
    | contradiction
    | with_reducible exact absurd (And.intro (by assumption) (by assumption)) (by assumption)
    | (exfalso; omega)
    | simp only [fun q => nk q 12 (by decide), fun q => nk q 13 (by decide), nx 1 (by decide), gpT, List.cons_append, List.nil_append, show (0 : Int32) &&& 1 = 0 from rfl, show (1 : Int32) &&& 1 = 1 from rfl, show ¬ ((1 : Int32) = 0) by decide, show ¬ ((0 : Int32) = 1) by decide, if_true, if_false, eq_self_iff_true]
    | split
set_option maxRecDepth 8000 in
set_option maxHeartbeats 1000000 in
theorem g_38 (d x y z : Nat) (h : PR K V N lx s (gs, os, p, dp, sc, n)) (hg : gs.length + 10 ≤ 9000) (hs : sc.length < 70) (hp : p ≤ N) (hn : n + (N - p) + 10 ≤ 26000) (hd : dp ≤ 60) (hx : x < 2 ^ 26) (hy : y < 2 ^ 26) (hz : z < 2 ^ 26) : pq_ K V N lx (pg_38 K V N lx x y z (gs, os, p, dp, sc, n)) (mE (d + 8) 41 [vr_ (some 0), vi_ (nI 38), vi_ (nI x), vi_ (nI y), vi_ (nI z)] s) := by
  have t2 := h.1.2.1
  have nk : ∀ q c, c < 2 ^ 31 → (nI (K q) = (OfNat.ofNat c : Int32)) = (K q = c) := fun q c hc => neq1_ c (PT_k h.1 q) hc
  have nx : ∀ c, c < 2 ^ 31 → (nI x = (OfNat.ofNat c : Int32)) = (x = c) := fun c hc => neq1_ c (by omega) hc
  have hol := PO_len h.2.2.2.2.2
  rw [me_reachE]
  refine q_tk h ?_
  rw [if_neg (by decide), if_neg (by decide), if_neg (by decide), if_neg (by decide), if_neg (by decide), if_neg (by decide), if_neg (by decide), if_neg (by decide), if_neg (by decide), if_neg (by decide), if_pos (by decide)]
  dsimp only [pg_38]
  repeat' first
    | with_reducible exact q_none
    | with_reducible exact q_ok (by assumption)
    | with_reducible exact q_okd (by assumption) (by omega)
    | with_reducible exact q_fl (by assumption)
    | with_reducible exact q_fl' (by assumption) (by assumption)
    | with_reducible exact q_okp (by assumption) (by omega) (PR_a (by assumption))
    | with_reducible refine q_goal' (by assumption) (by first | exact nlo_ _ | exact nsb1_ (by omega) | exact nI_1 _ | exact n8_ _ | rfl | exact PR_a (by assumption) | exact PR_o (by assumption) | exact PR_d4 (by assumption) | assumption) (by first | exact nlo_ _ | exact nsb1_ (by omega) | exact nI_1 _ | exact n8_ _ | rfl | exact PR_a (by assumption) | exact PR_o (by assumption) | exact PR_d4 (by assumption) | assumption) (by first | exact nlo_ _ | exact nsb1_ (by omega) | exact nI_1 _ | exact n8_ _ | rfl | exact PR_a (by assumption) | exact PR_o (by assumption) | exact PR_d4 (by assumption) | assumption) (by first | exact nlo_ _ | exact nsb1_ (by omega) | exact nI_1 _ | exact n8_ _ | rfl | exact PR_a (by assumption) | exact PR_o (by assumption) | exact PR_d4 (by assumption) | assumption) (by first | omega | (simp only [List.length_cons]; omega)) ⟨by first | decide | omega, by first | decide | omega, by first | decide | omega, by first | decide | omega⟩ (fun s1 h1 => ?_)
    | with_reducible refine q_goalp (by assumption) (PR_a (by assumption)) (by omega) (by first | exact nlo_ _ | exact nsb1_ (by omega) | exact nI_1 _ | exact n8_ _ | rfl | exact PR_a (by assumption) | exact PR_o (by assumption) | exact PR_d4 (by assumption) | assumption) (by first | exact nlo_ _ | exact nsb1_ (by omega) | exact nI_1 _ | exact n8_ _ | rfl | exact PR_a (by assumption) | exact PR_o (by assumption) | exact PR_d4 (by assumption) | assumption) (by first | exact nlo_ _ | exact nsb1_ (by omega) | exact nI_1 _ | exact n8_ _ | rfl | exact PR_a (by assumption) | exact PR_o (by assumption) | exact PR_d4 (by assumption) | assumption) (by first | exact nlo_ _ | exact nsb1_ (by omega) | exact nI_1 _ | exact n8_ _ | rfl | exact PR_a (by assumption) | exact PR_o (by assumption) | exact PR_d4 (by assumption) | assumption) (by first | omega | (simp only [List.length_cons]; omega)) ⟨by first | decide | omega, by first | decide | omega, by first | decide | omega, by first | decide | omega⟩ (fun s1 h1 => ?_)
    | with_reducible refine q_tk (by assumption) ?_
    | with_reducible refine q_tkp (by assumption) (PR_a (by assumption)) (by omega) (fun s1 h1 => ?_)
    | with_reducible refine q_takeq (by assumption) (by first | exact nlo_ _ | rfl) (by first | decide | omega) (by first | decide | omega) (fun hk1 s1 h1 => ?_) ?_
    | with_reducible refine q_take' (by assumption) (by first | exact nlo_ _ | rfl) (by first | decide | omega) (by first | decide | omega) (fun hk1 s1 h1 => ?_) (fun hk0 => ?_)
    | with_reducible refine q_takep (by assumption) (PR_a (by assumption)) (by omega) (by first | exact nlo_ _ | rfl) (by first | decide | omega) (by first | decide | omega) (fun hk1 s1 h1 => ?_) (fun hk0 s1 h1 => ?_)
    | with_reducible refine q_openp (by assumption) (PR_a (by assumption)) (by omega) (by omega) (by omega) (fun s1 h1 => ?_) (fun hk1 hd1 s1 h1 => ?_)
    | with_reducible refine q_deep (by assumption) (fun hd0 => ?_) (fun hd1 s1 h1 => ?_) (by omega)
    | with_reducible refine q_openq (by assumption) (by omega) (by omega) ?_ (fun hk1 hd1 s1 h1 => ?_)
    | with_reducible refine q_shutS (by assumption) (by omega) (fun s1 e1 t1 => ?_) (fun s1 p1 d1 sc1 h1 hp1 => ?_)
    | with_reducible refine q_shut' (by assumption) (by first | exact nlo_ _ | exact nsb1_ (by omega) | exact nI_1 _ | exact n8_ _ | rfl | exact PR_a (by assumption) | exact PR_o (by assumption) | exact PR_d4 (by assumption) | assumption) (by first | exact nlo_ _ | exact nsb1_ (by omega) | exact nI_1 _ | exact n8_ _ | rfl | exact PR_a (by assumption) | exact PR_o (by assumption) | exact PR_d4 (by assumption) | assumption) (by first | exact nlo_ _ | exact nsb1_ (by omega) | exact nI_1 _ | exact n8_ _ | rfl | exact PR_a (by assumption) | exact PR_o (by assumption) | exact PR_d4 (by assumption) | assumption) (by first | exact nlo_ _ | exact nsb1_ (by omega) | exact nI_1 _ | exact n8_ _ | rfl | exact PR_a (by assumption) | exact PR_o (by assumption) | exact PR_d4 (by assumption) | assumption) (by omega) (by first | decide | omega) (by first | decide | omega) (fun hb1 s1 h1 _ => ?_)
    | with_reducible refine q_leaf' (by assumption) (by first | exact nlo_ _ | exact nsb1_ (by omega) | exact nI_1 _ | exact n8_ _ | rfl | exact PR_a (by assumption) | exact PR_o (by assumption) | exact PR_d4 (by assumption) | assumption) (by first | exact nlo_ _ | exact nsb1_ (by omega) | exact nI_1 _ | exact n8_ _ | rfl | exact PR_a (by assumption) | exact PR_o (by assumption) | exact PR_d4 (by assumption) | assumption) rfl (by omega) (by decide) (by first | decide | omega) (fun s1 h1 => ?_)
    | with_reducible refine q_leafp (by assumption) (PR_a (by assumption)) (by omega) (by first | exact nlo_ _ | exact nsb1_ (by omega) | exact nI_1 _ | exact n8_ _ | rfl | exact PR_a (by assumption) | exact PR_o (by assumption) | exact PR_d4 (by assumption) | assumption) (by first | exact nlo_ _ | exact nsb1_ (by omega) | exact nI_1 _ | exact n8_ _ | rfl | exact PR_a (by assumption) | exact PR_o (by assumption) | exact PR_d4 (by assumption) | assumption) rfl (by omega) (by decide) (by first | decide | omega) (fun s1 h1 => ?_)
    | with_reducible refine q_labels' (by assumption) (by omega) (by omega) (fun s1 os1 p1 n1 el1 h1 => ?_)
    | with_reducible refine q_tqy (by assumption) ?_
    | with_reducible refine q_tqn (by assumption) ?_
    | with_reducible refine q_30 (by assumption) (by omega) (fun s1 h1 => ?_)
    | with_reducible refine q_ite (fun hk1 => ?_) (fun hk0 => ?_)
    | contradiction
    | with_reducible exact absurd (And.intro (by assumption) (by assumption)) (by assumption)
    | (exfalso; omega)
    | simp only [fun q => nk q 13 (by decide), fun q => nk q 14 (by decide), nx 20 (by decide), gpT, List.cons_append, List.nil_append, show (0 : Int32) &&& 1 = 0 from rfl, show (1 : Int32) &&& 1 = 1 from rfl, show ¬ ((1 : Int32) = 0) by decide, show ¬ ((0 : Int32) = 1) by decide, if_true, if_false, eq_self_iff_true]
    | split
set_option maxRecDepth 8000 in
set_option maxHeartbeats 1000000 in
theorem g_40 (d x y z : Nat) (h : PR K V N lx s (gs, os, p, dp, sc, n)) (hg : gs.length + 10 ≤ 9000) (hs : sc.length < 70) (hp : p ≤ N) (hn : n + (N - p) + 10 ≤ 26000) (hd : dp ≤ 60) (hx : x < 2 ^ 26) (hy : y < 2 ^ 26) (hz : z < 2 ^ 26) : pq_ K V N lx (pg_40 K V N lx x y z (gs, os, p, dp, sc, n)) (mE (d + 8) 41 [vr_ (some 0), vi_ (nI 40), vi_ (nI x), vi_ (nI y), vi_ (nI z)] s) := by
  have t2 := h.1.2.1
  have nk : ∀ q c, c < 2 ^ 31 → (nI (K q) = (OfNat.ofNat c : Int32)) = (K q = c) := fun q c hc => neq1_ c (PT_k h.1 q) hc
  have nx : ∀ c, c < 2 ^ 31 → (nI x = (OfNat.ofNat c : Int32)) = (x = c) := fun c hc => neq1_ c (by omega) hc
  have hol := PO_len h.2.2.2.2.2
  rw [me_reachE]
  refine q_tk h ?_
  rw [if_neg (by decide), if_neg (by decide), if_neg (by decide), if_neg (by decide), if_neg (by decide), if_neg (by decide), if_neg (by decide), if_neg (by decide), if_neg (by decide), if_neg (by decide), if_neg (by decide), if_pos (by decide)]
  dsimp only [pg_40]
  repeat' first
    | with_reducible exact q_none
    | with_reducible exact q_ok (by assumption)
    | with_reducible exact q_okd (by assumption) (by omega)
    | with_reducible exact q_fl (by assumption)
    | with_reducible exact q_fl' (by assumption) (by assumption)
    | with_reducible exact q_okp (by assumption) (by omega) (PR_a (by assumption))
    | with_reducible refine q_goal' (by assumption) (by first | exact nlo_ _ | exact nsb1_ (by omega) | exact nI_1 _ | exact n8_ _ | rfl | exact PR_a (by assumption) | exact PR_o (by assumption) | exact PR_d4 (by assumption) | assumption) (by first | exact nlo_ _ | exact nsb1_ (by omega) | exact nI_1 _ | exact n8_ _ | rfl | exact PR_a (by assumption) | exact PR_o (by assumption) | exact PR_d4 (by assumption) | assumption) (by first | exact nlo_ _ | exact nsb1_ (by omega) | exact nI_1 _ | exact n8_ _ | rfl | exact PR_a (by assumption) | exact PR_o (by assumption) | exact PR_d4 (by assumption) | assumption) (by first | exact nlo_ _ | exact nsb1_ (by omega) | exact nI_1 _ | exact n8_ _ | rfl | exact PR_a (by assumption) | exact PR_o (by assumption) | exact PR_d4 (by assumption) | assumption) (by first | omega | (simp only [List.length_cons]; omega)) ⟨by first | decide | omega, by first | decide | omega, by first | decide | omega, by first | decide | omega⟩ (fun s1 h1 => ?_)
    | with_reducible refine q_goalp (by assumption) (PR_a (by assumption)) (by omega) (by first | exact nlo_ _ | exact nsb1_ (by omega) | exact nI_1 _ | exact n8_ _ | rfl | exact PR_a (by assumption) | exact PR_o (by assumption) | exact PR_d4 (by assumption) | assumption) (by first | exact nlo_ _ | exact nsb1_ (by omega) | exact nI_1 _ | exact n8_ _ | rfl | exact PR_a (by assumption) | exact PR_o (by assumption) | exact PR_d4 (by assumption) | assumption) (by first | exact nlo_ _ | exact nsb1_ (by omega) | exact nI_1 _ | exact n8_ _ | rfl | exact PR_a (by assumption) | exact PR_o (by assumption) | exact PR_d4 (by assumption) | assumption) (by first | exact nlo_ _ | exact nsb1_ (by omega) | exact nI_1 _ | exact n8_ _ | rfl | exact PR_a (by assumption) | exact PR_o (by assumption) | exact PR_d4 (by assumption) | assumption) (by first | omega | (simp only [List.length_cons]; omega)) ⟨by first | decide | omega, by first | decide | omega, by first | decide | omega, by first | decide | omega⟩ (fun s1 h1 => ?_)
    | with_reducible refine q_tk (by assumption) ?_
    | with_reducible refine q_tkp (by assumption) (PR_a (by assumption)) (by omega) (fun s1 h1 => ?_)
    | with_reducible refine q_takeq (by assumption) (by first | exact nlo_ _ | rfl) (by first | decide | omega) (by first | decide | omega) (fun hk1 s1 h1 => ?_) ?_
    | with_reducible refine q_take' (by assumption) (by first | exact nlo_ _ | rfl) (by first | decide | omega) (by first | decide | omega) (fun hk1 s1 h1 => ?_) (fun hk0 => ?_)
    | with_reducible refine q_takep (by assumption) (PR_a (by assumption)) (by omega) (by first | exact nlo_ _ | rfl) (by first | decide | omega) (by first | decide | omega) (fun hk1 s1 h1 => ?_) (fun hk0 s1 h1 => ?_)
    | with_reducible refine q_openp (by assumption) (PR_a (by assumption)) (by omega) (by omega) (by omega) (fun s1 h1 => ?_) (fun hk1 hd1 s1 h1 => ?_)
    | with_reducible refine q_deep (by assumption) (fun hd0 => ?_) (fun hd1 s1 h1 => ?_) (by omega)
    | with_reducible refine q_openq (by assumption) (by omega) (by omega) ?_ (fun hk1 hd1 s1 h1 => ?_)
    | with_reducible refine q_shutS (by assumption) (by omega) (fun s1 e1 t1 => ?_) (fun s1 p1 d1 sc1 h1 hp1 => ?_)
    | with_reducible refine q_shut' (by assumption) (by first | exact nlo_ _ | exact nsb1_ (by omega) | exact nI_1 _ | exact n8_ _ | rfl | exact PR_a (by assumption) | exact PR_o (by assumption) | exact PR_d4 (by assumption) | assumption) (by first | exact nlo_ _ | exact nsb1_ (by omega) | exact nI_1 _ | exact n8_ _ | rfl | exact PR_a (by assumption) | exact PR_o (by assumption) | exact PR_d4 (by assumption) | assumption) (by first | exact nlo_ _ | exact nsb1_ (by omega) | exact nI_1 _ | exact n8_ _ | rfl | exact PR_a (by assumption) | exact PR_o (by assumption) | exact PR_d4 (by assumption) | assumption) (by first | exact nlo_ _ | exact nsb1_ (by omega) | exact nI_1 _ | exact n8_ _ | rfl | exact PR_a (by assumption) | exact PR_o (by assumption) | exact PR_d4 (by assumption) | assumption) (by omega) (by first | decide | omega) (by first | decide | omega) (fun hb1 s1 h1 _ => ?_)
    | with_reducible refine q_leaf' (by assumption) (by first | exact nlo_ _ | exact nsb1_ (by omega) | exact nI_1 _ | exact n8_ _ | rfl | exact PR_a (by assumption) | exact PR_o (by assumption) | exact PR_d4 (by assumption) | assumption) (by first | exact nlo_ _ | exact nsb1_ (by omega) | exact nI_1 _ | exact n8_ _ | rfl | exact PR_a (by assumption) | exact PR_o (by assumption) | exact PR_d4 (by assumption) | assumption) rfl (by omega) (by decide) (by first | decide | omega) (fun s1 h1 => ?_)
    | with_reducible refine q_leafp (by assumption) (PR_a (by assumption)) (by omega) (by first | exact nlo_ _ | exact nsb1_ (by omega) | exact nI_1 _ | exact n8_ _ | rfl | exact PR_a (by assumption) | exact PR_o (by assumption) | exact PR_d4 (by assumption) | assumption) (by first | exact nlo_ _ | exact nsb1_ (by omega) | exact nI_1 _ | exact n8_ _ | rfl | exact PR_a (by assumption) | exact PR_o (by assumption) | exact PR_d4 (by assumption) | assumption) rfl (by omega) (by decide) (by first | decide | omega) (fun s1 h1 => ?_)
    | with_reducible refine q_labels' (by assumption) (by omega) (by omega) (fun s1 os1 p1 n1 el1 h1 => ?_)
    | with_reducible refine q_tqy (by assumption) ?_
    | with_reducible refine q_tqn (by assumption) ?_
    | with_reducible refine q_30 (by assumption) (by omega) (fun s1 h1 => ?_)
    | with_reducible refine q_ite (fun hk1 => ?_) (fun hk0 => ?_)
    | contradiction
    | with_reducible exact absurd (And.intro (by assumption) (by assumption)) (by assumption)
    | (exfalso; omega)
    | simp only [fun q => nk q 14 (by decide), gpT, List.cons_append, List.nil_append, show (0 : Int32) &&& 1 = 0 from rfl, show (1 : Int32) &&& 1 = 1 from rfl, show ¬ ((1 : Int32) = 0) by decide, show ¬ ((0 : Int32) = 1) by decide, if_true, if_false, eq_self_iff_true]
    | split
set_option maxRecDepth 8000 in
set_option maxHeartbeats 1000000 in
theorem g_39 (d x y z : Nat) (h : PR K V N lx s (gs, os, p, dp, sc, n)) (hg : gs.length + 10 ≤ 9000) (hs : sc.length < 70) (hp : p ≤ N) (hn : n + (N - p) + 10 ≤ 26000) (hd : dp ≤ 60) (hx : x < 2 ^ 26) (hy : y < 2 ^ 26) (hz : z < 2 ^ 26) : pq_ K V N lx (pg_39 K V N lx x y z (gs, os, p, dp, sc, n)) (mE (d + 8) 41 [vr_ (some 0), vi_ (nI 39), vi_ (nI x), vi_ (nI y), vi_ (nI z)] s) := by
  have t2 := h.1.2.1
  have nk : ∀ q c, c < 2 ^ 31 → (nI (K q) = (OfNat.ofNat c : Int32)) = (K q = c) := fun q c hc => neq1_ c (PT_k h.1 q) hc
  have nx : ∀ c, c < 2 ^ 31 → (nI x = (OfNat.ofNat c : Int32)) = (x = c) := fun c hc => neq1_ c (by omega) hc
  have hol := PO_len h.2.2.2.2.2
  rw [me_reachE]
  refine q_tk h ?_
  rw [if_neg (by decide), if_neg (by decide), if_neg (by decide), if_neg (by decide), if_neg (by decide), if_neg (by decide), if_neg (by decide), if_neg (by decide), if_neg (by decide), if_neg (by decide), if_neg (by decide), if_neg (by decide)]
  dsimp only [pg_39]
  by_cases h1 : x = 1
  · rw [if_pos h1, if_pos (by rw [h1]; rfl)]
    match os, h, hol with
    | [], h, _ => exact q_none
    | t :: os, h, hol =>
      refine q_paren h (by omega) (by omega) (by omega) (fun s1 h1 => ?_)
      refine q_takeq h1 (nlo_ _) (by decide) (by decide) (fun hk1 s1 h1 => q_ok h1) (q_fl h1)
  · rw [if_neg h1, if_neg (by rw [neq1_ 1 (by omega) (by decide)]; exact h1)]
    refine q_ret ?_
    dsimp only [pm_p]
    repeat' first
    | with_reducible exact q_none
    | with_reducible exact q_ok (by assumption)
    | with_reducible exact q_okd (by assumption) (by omega)
    | with_reducible exact q_fl (by assumption)
    | with_reducible exact q_fl' (by assumption) (by assumption)
    | with_reducible exact q_okp (by assumption) (by omega) (PR_a (by assumption))
    | with_reducible refine q_goal' (by assumption) (by first | exact nlo_ _ | exact nsb1_ (by omega) | exact nI_1 _ | exact n8_ _ | rfl | exact PR_a (by assumption) | exact PR_o (by assumption) | exact PR_d4 (by assumption) | assumption) (by first | exact nlo_ _ | exact nsb1_ (by omega) | exact nI_1 _ | exact n8_ _ | rfl | exact PR_a (by assumption) | exact PR_o (by assumption) | exact PR_d4 (by assumption) | assumption) (by first | exact nlo_ _ | exact nsb1_ (by omega) | exact nI_1 _ | exact n8_ _ | rfl | exact PR_a (by assumption) | exact PR_o (by assumption) | exact PR_d4 (by assumption) | assumption) (by first | exact nlo_ _ | exact nsb1_ (by omega) | exact nI_1 _ | exact n8_ _ | rfl | exact PR_a (by assumption) | exact PR_o (by assumption) | exact PR_d4 (by assumption) | assumption) (by first | omega | (simp only [List.length_cons]; omega)) ⟨by first | decide | omega, by first | decide | omega, by first | decide | omega, by first | decide | omega⟩ (fun s1 h1 => ?_)
    | with_reducible refine q_goalp (by assumption) (PR_a (by assumption)) (by omega) (by first | exact nlo_ _ | exact nsb1_ (by omega) | exact nI_1 _ | exact n8_ _ | rfl | exact PR_a (by assumption) | exact PR_o (by assumption) | exact PR_d4 (by assumption) | assumption) (by first | exact nlo_ _ | exact nsb1_ (by omega) | exact nI_1 _ | exact n8_ _ | rfl | exact PR_a (by assumption) | exact PR_o (by assumption) | exact PR_d4 (by assumption) | assumption) (by first | exact nlo_ _ | exact nsb1_ (by omega) | exact nI_1 _ | exact n8_ _ | rfl | exact PR_a (by assumption) | exact PR_o (by assumption) | exact PR_d4 (by assumption) | assumption) (by first | exact nlo_ _ | exact nsb1_ (by omega) | exact nI_1 _ | exact n8_ _ | rfl | exact PR_a (by assumption) | exact PR_o (by assumption) | exact PR_d4 (by assumption) | assumption) (by first | omega | (simp only [List.length_cons]; omega)) ⟨by first | decide | omega, by first | decide | omega, by first | decide | omega, by first | decide | omega⟩ (fun s1 h1 => ?_)
    | with_reducible refine q_tk (by assumption) ?_
    | with_reducible refine q_tkp (by assumption) (PR_a (by assumption)) (by omega) (fun s1 h1 => ?_)
    | with_reducible refine q_takeq (by assumption) (by first | exact nlo_ _ | rfl) (by first | decide | omega) (by first | decide | omega) (fun hk1 s1 h1 => ?_) ?_
    | with_reducible refine q_take' (by assumption) (by first | exact nlo_ _ | rfl) (by first | decide | omega) (by first | decide | omega) (fun hk1 s1 h1 => ?_) (fun hk0 => ?_)
    | with_reducible refine q_takep (by assumption) (PR_a (by assumption)) (by omega) (by first | exact nlo_ _ | rfl) (by first | decide | omega) (by first | decide | omega) (fun hk1 s1 h1 => ?_) (fun hk0 s1 h1 => ?_)
    | with_reducible refine q_openp (by assumption) (PR_a (by assumption)) (by omega) (by omega) (by omega) (fun s1 h1 => ?_) (fun hk1 hd1 s1 h1 => ?_)
    | with_reducible refine q_deep (by assumption) (fun hd0 => ?_) (fun hd1 s1 h1 => ?_) (by omega)
    | with_reducible refine q_openq (by assumption) (by omega) (by omega) ?_ (fun hk1 hd1 s1 h1 => ?_)
    | with_reducible refine q_shutS (by assumption) (by omega) (fun s1 e1 t1 => ?_) (fun s1 p1 d1 sc1 h1 hp1 => ?_)
    | with_reducible refine q_shut' (by assumption) (by first | exact nlo_ _ | exact nsb1_ (by omega) | exact nI_1 _ | exact n8_ _ | rfl | exact PR_a (by assumption) | exact PR_o (by assumption) | exact PR_d4 (by assumption) | assumption) (by first | exact nlo_ _ | exact nsb1_ (by omega) | exact nI_1 _ | exact n8_ _ | rfl | exact PR_a (by assumption) | exact PR_o (by assumption) | exact PR_d4 (by assumption) | assumption) (by first | exact nlo_ _ | exact nsb1_ (by omega) | exact nI_1 _ | exact n8_ _ | rfl | exact PR_a (by assumption) | exact PR_o (by assumption) | exact PR_d4 (by assumption) | assumption) (by first | exact nlo_ _ | exact nsb1_ (by omega) | exact nI_1 _ | exact n8_ _ | rfl | exact PR_a (by assumption) | exact PR_o (by assumption) | exact PR_d4 (by assumption) | assumption) (by omega) (by first | decide | omega) (by first | decide | omega) (fun hb1 s1 h1 _ => ?_)
    | with_reducible refine q_leaf' (by assumption) (by first | exact nlo_ _ | exact nsb1_ (by omega) | exact nI_1 _ | exact n8_ _ | rfl | exact PR_a (by assumption) | exact PR_o (by assumption) | exact PR_d4 (by assumption) | assumption) (by first | exact nlo_ _ | exact nsb1_ (by omega) | exact nI_1 _ | exact n8_ _ | rfl | exact PR_a (by assumption) | exact PR_o (by assumption) | exact PR_d4 (by assumption) | assumption) rfl (by omega) (by decide) (by first | decide | omega) (fun s1 h1 => ?_)
    | with_reducible refine q_leafp (by assumption) (PR_a (by assumption)) (by omega) (by first | exact nlo_ _ | exact nsb1_ (by omega) | exact nI_1 _ | exact n8_ _ | rfl | exact PR_a (by assumption) | exact PR_o (by assumption) | exact PR_d4 (by assumption) | assumption) (by first | exact nlo_ _ | exact nsb1_ (by omega) | exact nI_1 _ | exact n8_ _ | rfl | exact PR_a (by assumption) | exact PR_o (by assumption) | exact PR_d4 (by assumption) | assumption) rfl (by omega) (by decide) (by first | decide | omega) (fun s1 h1 => ?_)
    | with_reducible refine q_labels' (by assumption) (by omega) (by omega) (fun s1 os1 p1 n1 el1 h1 => ?_)
    | with_reducible refine q_tqy (by assumption) ?_
    | with_reducible refine q_tqn (by assumption) ?_
    | with_reducible refine q_30 (by assumption) (by omega) (fun s1 h1 => ?_)
    | rw [me_primary]
    | rw [PR_a h]
    | rw [PR_d4 h]
    | rw [mm_a_n (by omega) (by decide), Option.bind_some, (h.1.2.2.1 p (PT_lt h.1 (by assumption) (by decide))).2]
    | with_reducible refine q_ite (fun hk1 => ?_) (fun hk0 => ?_)
    | contradiction
    | with_reducible exact absurd (And.intro (by assumption) (by assumption)) (by assumption)
    | (exfalso; omega)
    | simp only [fun q => nk q 1 (by decide), fun q => nk q 2 (by decide), fun q => nk q 4 (by decide), fun q => nk q 12 (by decide), fun q => nk q 74 (by decide), fun q => nk q 75 (by decide), fun q => nk q 76 (by decide), fun q => nk q 77 (by decide), nx 1 (by decide), gpT, List.cons_append, List.nil_append, show (0 : Int32) &&& 1 = 0 from rfl, show (1 : Int32) &&& 1 = 1 from rfl, show ¬ ((1 : Int32) = 0) by decide, show ¬ ((0 : Int32) = 1) by decide, if_true, if_false, eq_self_iff_true]
    | split
set_option maxRecDepth 8000 in
set_option maxHeartbeats 1000000 in
theorem g_1 (d x y z : Nat) (h : PR K V N lx s (gs, os, p, dp, sc, n)) (hg : gs.length + 10 ≤ 9000) (hs : sc.length < 70) (hp : p ≤ N) (hn : n + (N - p) + 10 ≤ 26000) (hd : dp ≤ 60) (hx : x < 2 ^ 26) (hy : y < 2 ^ 26) (hz : z < 2 ^ 26) : pq_ K V N lx (pg_1 K V N lx x y z (gs, os, p, dp, sc, n)) (mE (d + 8) 33 [vr_ (some 0), vi_ (nI 1), vi_ (nI x), vi_ (nI y), vi_ (nI z)] s) := by
  have t2 := h.1.2.1
  have nk : ∀ q c, c < 2 ^ 31 → (nI (K q) = (OfNat.ofNat c : Int32)) = (K q = c) := fun q c hc => neq1_ c (PT_k h.1 q) hc
  have nx : ∀ c, c < 2 ^ 31 → (nI x = (OfNat.ofNat c : Int32)) = (x = c) := fun c hc => neq1_ c (by omega) hc
  have hol := PO_len h.2.2.2.2.2
  rw [me_reach]
  rw [if_pos (by decide), mj_reach_22]
  rw [if_pos (by decide)]
  dsimp only [pg_1]
  repeat' first
    | with_reducible exact q_none
    | with_reducible exact q_ok (by assumption)
    | with_reducible exact q_okd (by assumption) (by omega)
    | with_reducible exact q_fl (by assumption)
    | with_reducible exact q_fl' (by assumption) (by assumption)
    | with_reducible exact q_okp (by assumption) (by omega) (PR_a (by assumption))
    | with_reducible refine q_goal' (by assumption) (by first | exact nlo_ _ | exact nsb1_ (by omega) | exact nI_1 _ | exact n8_ _ | rfl | exact PR_a (by assumption) | exact PR_o (by assumption) | exact PR_d4 (by assumption) | assumption) (by first | exact nlo_ _ | exact nsb1_ (by omega) | exact nI_1 _ | exact n8_ _ | rfl | exact PR_a (by assumption) | exact PR_o (by assumption) | exact PR_d4 (by assumption) | assumption) (by first | exact nlo_ _ | exact nsb1_ (by omega) | exact nI_1 _ | exact n8_ _ | rfl | exact PR_a (by assumption) | exact PR_o (by assumption) | exact PR_d4 (by assumption) | assumption) (by first | exact nlo_ _ | exact nsb1_ (by omega) | exact nI_1 _ | exact n8_ _ | rfl | exact PR_a (by assumption) | exact PR_o (by assumption) | exact PR_d4 (by assumption) | assumption) (by first | omega | (simp only [List.length_cons]; omega)) ⟨by first | decide | omega, by first | decide | omega, by first | decide | omega, by first | decide | omega⟩ (fun s1 h1 => ?_)
    | with_reducible refine q_goalp (by assumption) (PR_a (by assumption)) (by omega) (by first | exact nlo_ _ | exact nsb1_ (by omega) | exact nI_1 _ | exact n8_ _ | rfl | exact PR_a (by assumption) | exact PR_o (by assumption) | exact PR_d4 (by assumption) | assumption) (by first | exact nlo_ _ | exact nsb1_ (by omega) | exact nI_1 _ | exact n8_ _ | rfl | exact PR_a (by assumption) | exact PR_o (by assumption) | exact PR_d4 (by assumption) | assumption) (by first | exact nlo_ _ | exact nsb1_ (by omega) | exact nI_1 _ | exact n8_ _ | rfl | exact PR_a (by assumption) | exact PR_o (by assumption) | exact PR_d4 (by assumption) | assumption) (by first | exact nlo_ _ | exact nsb1_ (by omega) | exact nI_1 _ | exact n8_ _ | rfl | exact PR_a (by assumption) | exact PR_o (by assumption) | exact PR_d4 (by assumption) | assumption) (by first | omega | (simp only [List.length_cons]; omega)) ⟨by first | decide | omega, by first | decide | omega, by first | decide | omega, by first | decide | omega⟩ (fun s1 h1 => ?_)
    | with_reducible refine q_tk (by assumption) ?_
    | with_reducible refine q_tkp (by assumption) (PR_a (by assumption)) (by omega) (fun s1 h1 => ?_)
    | with_reducible refine q_takeq (by assumption) (by first | exact nlo_ _ | rfl) (by first | decide | omega) (by first | decide | omega) (fun hk1 s1 h1 => ?_) ?_
    | with_reducible refine q_take' (by assumption) (by first | exact nlo_ _ | rfl) (by first | decide | omega) (by first | decide | omega) (fun hk1 s1 h1 => ?_) (fun hk0 => ?_)
    | with_reducible refine q_takep (by assumption) (PR_a (by assumption)) (by omega) (by first | exact nlo_ _ | rfl) (by first | decide | omega) (by first | decide | omega) (fun hk1 s1 h1 => ?_) (fun hk0 s1 h1 => ?_)
    | with_reducible refine q_openp (by assumption) (PR_a (by assumption)) (by omega) (by omega) (by omega) (fun s1 h1 => ?_) (fun hk1 hd1 s1 h1 => ?_)
    | with_reducible refine q_deep (by assumption) (fun hd0 => ?_) (fun hd1 s1 h1 => ?_) (by omega)
    | with_reducible refine q_openq (by assumption) (by omega) (by omega) ?_ (fun hk1 hd1 s1 h1 => ?_)
    | with_reducible refine q_shutS (by assumption) (by omega) (fun s1 e1 t1 => ?_) (fun s1 p1 d1 sc1 h1 hp1 => ?_)
    | with_reducible refine q_shut' (by assumption) (by first | exact nlo_ _ | exact nsb1_ (by omega) | exact nI_1 _ | exact n8_ _ | rfl | exact PR_a (by assumption) | exact PR_o (by assumption) | exact PR_d4 (by assumption) | assumption) (by first | exact nlo_ _ | exact nsb1_ (by omega) | exact nI_1 _ | exact n8_ _ | rfl | exact PR_a (by assumption) | exact PR_o (by assumption) | exact PR_d4 (by assumption) | assumption) (by first | exact nlo_ _ | exact nsb1_ (by omega) | exact nI_1 _ | exact n8_ _ | rfl | exact PR_a (by assumption) | exact PR_o (by assumption) | exact PR_d4 (by assumption) | assumption) (by first | exact nlo_ _ | exact nsb1_ (by omega) | exact nI_1 _ | exact n8_ _ | rfl | exact PR_a (by assumption) | exact PR_o (by assumption) | exact PR_d4 (by assumption) | assumption) (by omega) (by first | decide | omega) (by first | decide | omega) (fun hb1 s1 h1 _ => ?_)
    | with_reducible refine q_leaf' (by assumption) (by first | exact nlo_ _ | exact nsb1_ (by omega) | exact nI_1 _ | exact n8_ _ | rfl | exact PR_a (by assumption) | exact PR_o (by assumption) | exact PR_d4 (by assumption) | assumption) (by first | exact nlo_ _ | exact nsb1_ (by omega) | exact nI_1 _ | exact n8_ _ | rfl | exact PR_a (by assumption) | exact PR_o (by assumption) | exact PR_d4 (by assumption) | assumption) rfl (by omega) (by decide) (by first | decide | omega) (fun s1 h1 => ?_)
    | with_reducible refine q_leafp (by assumption) (PR_a (by assumption)) (by omega) (by first | exact nlo_ _ | exact nsb1_ (by omega) | exact nI_1 _ | exact n8_ _ | rfl | exact PR_a (by assumption) | exact PR_o (by assumption) | exact PR_d4 (by assumption) | assumption) (by first | exact nlo_ _ | exact nsb1_ (by omega) | exact nI_1 _ | exact n8_ _ | rfl | exact PR_a (by assumption) | exact PR_o (by assumption) | exact PR_d4 (by assumption) | assumption) rfl (by omega) (by decide) (by first | decide | omega) (fun s1 h1 => ?_)
    | with_reducible refine q_labels' (by assumption) (by omega) (by omega) (fun s1 os1 p1 n1 el1 h1 => ?_)
    | with_reducible refine q_tqy (by assumption) ?_
    | with_reducible refine q_tqn (by assumption) ?_
    | with_reducible refine q_30 (by assumption) (by omega) (fun s1 h1 => ?_)
    | with_reducible refine q_ite (fun hk1 => ?_) (fun hk0 => ?_)
    | contradiction
    | with_reducible exact absurd (And.intro (by assumption) (by assumption)) (by assumption)
    | (exfalso; omega)
    | simp only [gpT, List.cons_append, List.nil_append, show (0 : Int32) &&& 1 = 0 from rfl, show (1 : Int32) &&& 1 = 1 from rfl, show ¬ ((1 : Int32) = 0) by decide, show ¬ ((0 : Int32) = 1) by decide, if_true, if_false, eq_self_iff_true]
    | split
set_option maxRecDepth 8000 in
set_option maxHeartbeats 1000000 in
theorem g_6 (d x y z : Nat) (h : PR K V N lx s (gs, os, p, dp, sc, n)) (hg : gs.length + 10 ≤ 9000) (hs : sc.length < 70) (hp : p ≤ N) (hn : n + (N - p) + 10 ≤ 26000) (hd : dp ≤ 60) (hx : x < 2 ^ 26) (hy : y < 2 ^ 26) (hz : z < 2 ^ 26) : pq_ K V N lx (pg_6 K V N lx x y z (gs, os, p, dp, sc, n)) (mE (d + 8) 33 [vr_ (some 0), vi_ (nI 6), vi_ (nI x), vi_ (nI y), vi_ (nI z)] s) := by
  have t2 := h.1.2.1
  have nk : ∀ q c, c < 2 ^ 31 → (nI (K q) = (OfNat.ofNat c : Int32)) = (K q = c) := fun q c hc => neq1_ c (PT_k h.1 q) hc
  have nx : ∀ c, c < 2 ^ 31 → (nI x = (OfNat.ofNat c : Int32)) = (x = c) := fun c hc => neq1_ c (by omega) hc
  have hol := PO_len h.2.2.2.2.2
  rw [me_reach]
  rw [if_pos (by decide), mj_reach_22]
  rw [if_neg (by decide), if_neg (by decide), if_pos (by decide)]
  dsimp only [pg_6]
  repeat' first
    | with_reducible exact q_none
    | with_reducible exact q_ok (by assumption)
    | with_reducible exact q_okd (by assumption) (by omega)
    | with_reducible exact q_fl (by assumption)
    | with_reducible exact q_fl' (by assumption) (by assumption)
    | with_reducible exact q_okp (by assumption) (by omega) (PR_a (by assumption))
    | with_reducible refine q_goal' (by assumption) (by first | exact nlo_ _ | exact nsb1_ (by omega) | exact nI_1 _ | exact n8_ _ | rfl | exact PR_a (by assumption) | exact PR_o (by assumption) | exact PR_d4 (by assumption) | assumption) (by first | exact nlo_ _ | exact nsb1_ (by omega) | exact nI_1 _ | exact n8_ _ | rfl | exact PR_a (by assumption) | exact PR_o (by assumption) | exact PR_d4 (by assumption) | assumption) (by first | exact nlo_ _ | exact nsb1_ (by omega) | exact nI_1 _ | exact n8_ _ | rfl | exact PR_a (by assumption) | exact PR_o (by assumption) | exact PR_d4 (by assumption) | assumption) (by first | exact nlo_ _ | exact nsb1_ (by omega) | exact nI_1 _ | exact n8_ _ | rfl | exact PR_a (by assumption) | exact PR_o (by assumption) | exact PR_d4 (by assumption) | assumption) (by first | omega | (simp only [List.length_cons]; omega)) ⟨by first | decide | omega, by first | decide | omega, by first | decide | omega, by first | decide | omega⟩ (fun s1 h1 => ?_)
    | with_reducible refine q_goalp (by assumption) (PR_a (by assumption)) (by omega) (by first | exact nlo_ _ | exact nsb1_ (by omega) | exact nI_1 _ | exact n8_ _ | rfl | exact PR_a (by assumption) | exact PR_o (by assumption) | exact PR_d4 (by assumption) | assumption) (by first | exact nlo_ _ | exact nsb1_ (by omega) | exact nI_1 _ | exact n8_ _ | rfl | exact PR_a (by assumption) | exact PR_o (by assumption) | exact PR_d4 (by assumption) | assumption) (by first | exact nlo_ _ | exact nsb1_ (by omega) | exact nI_1 _ | exact n8_ _ | rfl | exact PR_a (by assumption) | exact PR_o (by assumption) | exact PR_d4 (by assumption) | assumption) (by first | exact nlo_ _ | exact nsb1_ (by omega) | exact nI_1 _ | exact n8_ _ | rfl | exact PR_a (by assumption) | exact PR_o (by assumption) | exact PR_d4 (by assumption) | assumption) (by first | omega | (simp only [List.length_cons]; omega)) ⟨by first | decide | omega, by first | decide | omega, by first | decide | omega, by first | decide | omega⟩ (fun s1 h1 => ?_)
    | with_reducible refine q_tk (by assumption) ?_
    | with_reducible refine q_tkp (by assumption) (PR_a (by assumption)) (by omega) (fun s1 h1 => ?_)
    | with_reducible refine q_takeq (by assumption) (by first | exact nlo_ _ | rfl) (by first | decide | omega) (by first | decide | omega) (fun hk1 s1 h1 => ?_) ?_
    | with_reducible refine q_take' (by assumption) (by first | exact nlo_ _ | rfl) (by first | decide | omega) (by first | decide | omega) (fun hk1 s1 h1 => ?_) (fun hk0 => ?_)
    | with_reducible refine q_takep (by assumption) (PR_a (by assumption)) (by omega) (by first | exact nlo_ _ | rfl) (by first | decide | omega) (by first | decide | omega) (fun hk1 s1 h1 => ?_) (fun hk0 s1 h1 => ?_)
    | with_reducible refine q_openp (by assumption) (PR_a (by assumption)) (by omega) (by omega) (by omega) (fun s1 h1 => ?_) (fun hk1 hd1 s1 h1 => ?_)
    | with_reducible refine q_deep (by assumption) (fun hd0 => ?_) (fun hd1 s1 h1 => ?_) (by omega)
    | with_reducible refine q_openq (by assumption) (by omega) (by omega) ?_ (fun hk1 hd1 s1 h1 => ?_)
    | with_reducible refine q_shutS (by assumption) (by omega) (fun s1 e1 t1 => ?_) (fun s1 p1 d1 sc1 h1 hp1 => ?_)
    | with_reducible refine q_shut' (by assumption) (by first | exact nlo_ _ | exact nsb1_ (by omega) | exact nI_1 _ | exact n8_ _ | rfl | exact PR_a (by assumption) | exact PR_o (by assumption) | exact PR_d4 (by assumption) | assumption) (by first | exact nlo_ _ | exact nsb1_ (by omega) | exact nI_1 _ | exact n8_ _ | rfl | exact PR_a (by assumption) | exact PR_o (by assumption) | exact PR_d4 (by assumption) | assumption) (by first | exact nlo_ _ | exact nsb1_ (by omega) | exact nI_1 _ | exact n8_ _ | rfl | exact PR_a (by assumption) | exact PR_o (by assumption) | exact PR_d4 (by assumption) | assumption) (by first | exact nlo_ _ | exact nsb1_ (by omega) | exact nI_1 _ | exact n8_ _ | rfl | exact PR_a (by assumption) | exact PR_o (by assumption) | exact PR_d4 (by assumption) | assumption) (by omega) (by first | decide | omega) (by first | decide | omega) (fun hb1 s1 h1 _ => ?_)
    | with_reducible refine q_leaf' (by assumption) (by first | exact nlo_ _ | exact nsb1_ (by omega) | exact nI_1 _ | exact n8_ _ | rfl | exact PR_a (by assumption) | exact PR_o (by assumption) | exact PR_d4 (by assumption) | assumption) (by first | exact nlo_ _ | exact nsb1_ (by omega) | exact nI_1 _ | exact n8_ _ | rfl | exact PR_a (by assumption) | exact PR_o (by assumption) | exact PR_d4 (by assumption) | assumption) rfl (by omega) (by decide) (by first | decide | omega) (fun s1 h1 => ?_)
    | with_reducible refine q_leafp (by assumption) (PR_a (by assumption)) (by omega) (by first | exact nlo_ _ | exact nsb1_ (by omega) | exact nI_1 _ | exact n8_ _ | rfl | exact PR_a (by assumption) | exact PR_o (by assumption) | exact PR_d4 (by assumption) | assumption) (by first | exact nlo_ _ | exact nsb1_ (by omega) | exact nI_1 _ | exact n8_ _ | rfl | exact PR_a (by assumption) | exact PR_o (by assumption) | exact PR_d4 (by assumption) | assumption) rfl (by omega) (by decide) (by first | decide | omega) (fun s1 h1 => ?_)
    | with_reducible refine q_labels' (by assumption) (by omega) (by omega) (fun s1 os1 p1 n1 el1 h1 => ?_)
    | with_reducible refine q_tqy (by assumption) ?_
    | with_reducible refine q_tqn (by assumption) ?_
    | with_reducible refine q_30 (by assumption) (by omega) (fun s1 h1 => ?_)
    | with_reducible refine q_ite (fun hk1 => ?_) (fun hk0 => ?_)
    | contradiction
    | with_reducible exact absurd (And.intro (by assumption) (by assumption)) (by assumption)
    | (exfalso; omega)
    | simp only [nx 20 (by decide), gpT, List.cons_append, List.nil_append, show (0 : Int32) &&& 1 = 0 from rfl, show (1 : Int32) &&& 1 = 1 from rfl, show ¬ ((1 : Int32) = 0) by decide, show ¬ ((0 : Int32) = 1) by decide, if_true, if_false, eq_self_iff_true]
    | split
set_option maxRecDepth 8000 in
set_option maxHeartbeats 1000000 in
theorem g_15 (d x y z : Nat) (h : PR K V N lx s (gs, os, p, dp, sc, n)) (hg : gs.length + 10 ≤ 9000) (hs : sc.length < 70) (hp : p ≤ N) (hn : n + (N - p) + 10 ≤ 26000) (hd : dp ≤ 60) (hx : x < 2 ^ 26) (hy : y < 2 ^ 26) (hz : z < 2 ^ 26) : pq_ K V N lx (pg_15 K V N lx x y z (gs, os, p, dp, sc, n)) (mE (d + 8) 33 [vr_ (some 0), vi_ (nI 15), vi_ (nI x), vi_ (nI y), vi_ (nI z)] s) := by
  have t2 := h.1.2.1
  have nk : ∀ q c, c < 2 ^ 31 → (nI (K q) = (OfNat.ofNat c : Int32)) = (K q = c) := fun q c hc => neq1_ c (PT_k h.1 q) hc
  have nx : ∀ c, c < 2 ^ 31 → (nI x = (OfNat.ofNat c : Int32)) = (x = c) := fun c hc => neq1_ c (by omega) hc
  have hol := PO_len h.2.2.2.2.2
  rw [me_reach]
  rw [if_pos (by decide), mj_reach_22]
  rw [if_neg (by decide), if_neg (by decide), if_neg (by decide), if_pos (by decide)]
  dsimp only [pg_15]
  repeat' first
    | with_reducible exact q_none
    | with_reducible exact q_ok (by assumption)
    | with_reducible exact q_okd (by assumption) (by omega)
    | with_reducible exact q_fl (by assumption)
    | with_reducible exact q_fl' (by assumption) (by assumption)
    | with_reducible exact q_okp (by assumption) (by omega) (PR_a (by assumption))
    | with_reducible refine q_goal' (by assumption) (by first | exact nlo_ _ | exact nsb1_ (by omega) | exact nI_1 _ | exact n8_ _ | rfl | exact PR_a (by assumption) | exact PR_o (by assumption) | exact PR_d4 (by assumption) | assumption) (by first | exact nlo_ _ | exact nsb1_ (by omega) | exact nI_1 _ | exact n8_ _ | rfl | exact PR_a (by assumption) | exact PR_o (by assumption) | exact PR_d4 (by assumption) | assumption) (by first | exact nlo_ _ | exact nsb1_ (by omega) | exact nI_1 _ | exact n8_ _ | rfl | exact PR_a (by assumption) | exact PR_o (by assumption) | exact PR_d4 (by assumption) | assumption) (by first | exact nlo_ _ | exact nsb1_ (by omega) | exact nI_1 _ | exact n8_ _ | rfl | exact PR_a (by assumption) | exact PR_o (by assumption) | exact PR_d4 (by assumption) | assumption) (by first | omega | (simp only [List.length_cons]; omega)) ⟨by first | decide | omega, by first | decide | omega, by first | decide | omega, by first | decide | omega⟩ (fun s1 h1 => ?_)
    | with_reducible refine q_goalp (by assumption) (PR_a (by assumption)) (by omega) (by first | exact nlo_ _ | exact nsb1_ (by omega) | exact nI_1 _ | exact n8_ _ | rfl | exact PR_a (by assumption) | exact PR_o (by assumption) | exact PR_d4 (by assumption) | assumption) (by first | exact nlo_ _ | exact nsb1_ (by omega) | exact nI_1 _ | exact n8_ _ | rfl | exact PR_a (by assumption) | exact PR_o (by assumption) | exact PR_d4 (by assumption) | assumption) (by first | exact nlo_ _ | exact nsb1_ (by omega) | exact nI_1 _ | exact n8_ _ | rfl | exact PR_a (by assumption) | exact PR_o (by assumption) | exact PR_d4 (by assumption) | assumption) (by first | exact nlo_ _ | exact nsb1_ (by omega) | exact nI_1 _ | exact n8_ _ | rfl | exact PR_a (by assumption) | exact PR_o (by assumption) | exact PR_d4 (by assumption) | assumption) (by first | omega | (simp only [List.length_cons]; omega)) ⟨by first | decide | omega, by first | decide | omega, by first | decide | omega, by first | decide | omega⟩ (fun s1 h1 => ?_)
    | with_reducible refine q_tk (by assumption) ?_
    | with_reducible refine q_tkp (by assumption) (PR_a (by assumption)) (by omega) (fun s1 h1 => ?_)
    | with_reducible refine q_takeq (by assumption) (by first | exact nlo_ _ | rfl) (by first | decide | omega) (by first | decide | omega) (fun hk1 s1 h1 => ?_) ?_
    | with_reducible refine q_take' (by assumption) (by first | exact nlo_ _ | rfl) (by first | decide | omega) (by first | decide | omega) (fun hk1 s1 h1 => ?_) (fun hk0 => ?_)
    | with_reducible refine q_takep (by assumption) (PR_a (by assumption)) (by omega) (by first | exact nlo_ _ | rfl) (by first | decide | omega) (by first | decide | omega) (fun hk1 s1 h1 => ?_) (fun hk0 s1 h1 => ?_)
    | with_reducible refine q_openp (by assumption) (PR_a (by assumption)) (by omega) (by omega) (by omega) (fun s1 h1 => ?_) (fun hk1 hd1 s1 h1 => ?_)
    | with_reducible refine q_deep (by assumption) (fun hd0 => ?_) (fun hd1 s1 h1 => ?_) (by omega)
    | with_reducible refine q_openq (by assumption) (by omega) (by omega) ?_ (fun hk1 hd1 s1 h1 => ?_)
    | with_reducible refine q_shutS (by assumption) (by omega) (fun s1 e1 t1 => ?_) (fun s1 p1 d1 sc1 h1 hp1 => ?_)
    | with_reducible refine q_shut' (by assumption) (by first | exact nlo_ _ | exact nsb1_ (by omega) | exact nI_1 _ | exact n8_ _ | rfl | exact PR_a (by assumption) | exact PR_o (by assumption) | exact PR_d4 (by assumption) | assumption) (by first | exact nlo_ _ | exact nsb1_ (by omega) | exact nI_1 _ | exact n8_ _ | rfl | exact PR_a (by assumption) | exact PR_o (by assumption) | exact PR_d4 (by assumption) | assumption) (by first | exact nlo_ _ | exact nsb1_ (by omega) | exact nI_1 _ | exact n8_ _ | rfl | exact PR_a (by assumption) | exact PR_o (by assumption) | exact PR_d4 (by assumption) | assumption) (by first | exact nlo_ _ | exact nsb1_ (by omega) | exact nI_1 _ | exact n8_ _ | rfl | exact PR_a (by assumption) | exact PR_o (by assumption) | exact PR_d4 (by assumption) | assumption) (by omega) (by first | decide | omega) (by first | decide | omega) (fun hb1 s1 h1 _ => ?_)
    | with_reducible refine q_leaf' (by assumption) (by first | exact nlo_ _ | exact nsb1_ (by omega) | exact nI_1 _ | exact n8_ _ | rfl | exact PR_a (by assumption) | exact PR_o (by assumption) | exact PR_d4 (by assumption) | assumption) (by first | exact nlo_ _ | exact nsb1_ (by omega) | exact nI_1 _ | exact n8_ _ | rfl | exact PR_a (by assumption) | exact PR_o (by assumption) | exact PR_d4 (by assumption) | assumption) rfl (by omega) (by decide) (by first | decide | omega) (fun s1 h1 => ?_)
    | with_reducible refine q_leafp (by assumption) (PR_a (by assumption)) (by omega) (by first | exact nlo_ _ | exact nsb1_ (by omega) | exact nI_1 _ | exact n8_ _ | rfl | exact PR_a (by assumption) | exact PR_o (by assumption) | exact PR_d4 (by assumption) | assumption) (by first | exact nlo_ _ | exact nsb1_ (by omega) | exact nI_1 _ | exact n8_ _ | rfl | exact PR_a (by assumption) | exact PR_o (by assumption) | exact PR_d4 (by assumption) | assumption) rfl (by omega) (by decide) (by first | decide | omega) (fun s1 h1 => ?_)
    | with_reducible refine q_labels' (by assumption) (by omega) (by omega) (fun s1 os1 p1 n1 el1 h1 => ?_)
    | with_reducible refine q_tqy (by assumption) ?_
    | with_reducible refine q_tqn (by assumption) ?_
    | with_reducible refine q_30 (by assumption) (by omega) (fun s1 h1 => ?_)
    | with_reducible refine q_ite (fun hk1 => ?_) (fun hk0 => ?_)
    | contradiction
    | with_reducible exact absurd (And.intro (by assumption) (by assumption)) (by assumption)
    | (exfalso; omega)
    | simp only [gpT, List.cons_append, List.nil_append, show (0 : Int32) &&& 1 = 0 from rfl, show (1 : Int32) &&& 1 = 1 from rfl, show ¬ ((1 : Int32) = 0) by decide, show ¬ ((0 : Int32) = 1) by decide, if_true, if_false, eq_self_iff_true]
    | split
set_option maxRecDepth 8000 in
set_option maxHeartbeats 1000000 in
theorem g_16 (d x y z : Nat) (h : PR K V N lx s (gs, os, p, dp, sc, n)) (hg : gs.length + 10 ≤ 9000) (hs : sc.length < 70) (hp : p ≤ N) (hn : n + (N - p) + 10 ≤ 26000) (hd : dp ≤ 60) (hx : x < 2 ^ 26) (hy : y < 2 ^ 26) (hz : z < 2 ^ 26) : pq_ K V N lx (pg_16 K V N lx x y z (gs, os, p, dp, sc, n)) (mE (d + 8) 33 [vr_ (some 0), vi_ (nI 16), vi_ (nI x), vi_ (nI y), vi_ (nI z)] s) := by
  have t2 := h.1.2.1
  have nk : ∀ q c, c < 2 ^ 31 → (nI (K q) = (OfNat.ofNat c : Int32)) = (K q = c) := fun q c hc => neq1_ c (PT_k h.1 q) hc
  have nx : ∀ c, c < 2 ^ 31 → (nI x = (OfNat.ofNat c : Int32)) = (x = c) := fun c hc => neq1_ c (by omega) hc
  have hol := PO_len h.2.2.2.2.2
  rw [me_reach]
  rw [if_pos (by decide), mj_reach_22]
  rw [if_neg (by decide), if_neg (by decide), if_neg (by decide), if_neg (by decide), if_pos (by decide)]
  dsimp only [pg_16]
  repeat' first
    | with_reducible exact q_none
    | with_reducible exact q_ok (by assumption)
    | with_reducible exact q_okd (by assumption) (by omega)
    | with_reducible exact q_fl (by assumption)
    | with_reducible exact q_fl' (by assumption) (by assumption)
    | with_reducible exact q_okp (by assumption) (by omega) (PR_a (by assumption))
    | with_reducible refine q_goal' (by assumption) (by first | exact nlo_ _ | exact nsb1_ (by omega) | exact nI_1 _ | exact n8_ _ | rfl | exact PR_a (by assumption) | exact PR_o (by assumption) | exact PR_d4 (by assumption) | assumption) (by first | exact nlo_ _ | exact nsb1_ (by omega) | exact nI_1 _ | exact n8_ _ | rfl | exact PR_a (by assumption) | exact PR_o (by assumption) | exact PR_d4 (by assumption) | assumption) (by first | exact nlo_ _ | exact nsb1_ (by omega) | exact nI_1 _ | exact n8_ _ | rfl | exact PR_a (by assumption) | exact PR_o (by assumption) | exact PR_d4 (by assumption) | assumption) (by first | exact nlo_ _ | exact nsb1_ (by omega) | exact nI_1 _ | exact n8_ _ | rfl | exact PR_a (by assumption) | exact PR_o (by assumption) | exact PR_d4 (by assumption) | assumption) (by first | omega | (simp only [List.length_cons]; omega)) ⟨by first | decide | omega, by first | decide | omega, by first | decide | omega, by first | decide | omega⟩ (fun s1 h1 => ?_)
    | with_reducible refine q_goalp (by assumption) (PR_a (by assumption)) (by omega) (by first | exact nlo_ _ | exact nsb1_ (by omega) | exact nI_1 _ | exact n8_ _ | rfl | exact PR_a (by assumption) | exact PR_o (by assumption) | exact PR_d4 (by assumption) | assumption) (by first | exact nlo_ _ | exact nsb1_ (by omega) | exact nI_1 _ | exact n8_ _ | rfl | exact PR_a (by assumption) | exact PR_o (by assumption) | exact PR_d4 (by assumption) | assumption) (by first | exact nlo_ _ | exact nsb1_ (by omega) | exact nI_1 _ | exact n8_ _ | rfl | exact PR_a (by assumption) | exact PR_o (by assumption) | exact PR_d4 (by assumption) | assumption) (by first | exact nlo_ _ | exact nsb1_ (by omega) | exact nI_1 _ | exact n8_ _ | rfl | exact PR_a (by assumption) | exact PR_o (by assumption) | exact PR_d4 (by assumption) | assumption) (by first | omega | (simp only [List.length_cons]; omega)) ⟨by first | decide | omega, by first | decide | omega, by first | decide | omega, by first | decide | omega⟩ (fun s1 h1 => ?_)
    | with_reducible refine q_tk (by assumption) ?_
    | with_reducible refine q_tkp (by assumption) (PR_a (by assumption)) (by omega) (fun s1 h1 => ?_)
    | with_reducible refine q_takeq (by assumption) (by first | exact nlo_ _ | rfl) (by first | decide | omega) (by first | decide | omega) (fun hk1 s1 h1 => ?_) ?_
    | with_reducible refine q_take' (by assumption) (by first | exact nlo_ _ | rfl) (by first | decide | omega) (by first | decide | omega) (fun hk1 s1 h1 => ?_) (fun hk0 => ?_)
    | with_reducible refine q_takep (by assumption) (PR_a (by assumption)) (by omega) (by first | exact nlo_ _ | rfl) (by first | decide | omega) (by first | decide | omega) (fun hk1 s1 h1 => ?_) (fun hk0 s1 h1 => ?_)
    | with_reducible refine q_openp (by assumption) (PR_a (by assumption)) (by omega) (by omega) (by omega) (fun s1 h1 => ?_) (fun hk1 hd1 s1 h1 => ?_)
    | with_reducible refine q_deep (by assumption) (fun hd0 => ?_) (fun hd1 s1 h1 => ?_) (by omega)
    | with_reducible refine q_openq (by assumption) (by omega) (by omega) ?_ (fun hk1 hd1 s1 h1 => ?_)
    | with_reducible refine q_shutS (by assumption) (by omega) (fun s1 e1 t1 => ?_) (fun s1 p1 d1 sc1 h1 hp1 => ?_)
    | with_reducible refine q_shut' (by assumption) (by first | exact nlo_ _ | exact nsb1_ (by omega) | exact nI_1 _ | exact n8_ _ | rfl | exact PR_a (by assumption) | exact PR_o (by assumption) | exact PR_d4 (by assumption) | assumption) (by first | exact nlo_ _ | exact nsb1_ (by omega) | exact nI_1 _ | exact n8_ _ | rfl | exact PR_a (by assumption) | exact PR_o (by assumption) | exact PR_d4 (by assumption) | assumption) (by first | exact nlo_ _ | exact nsb1_ (by omega) | exact nI_1 _ | exact n8_ _ | rfl | exact PR_a (by assumption) | exact PR_o (by assumption) | exact PR_d4 (by assumption) | assumption) (by first | exact nlo_ _ | exact nsb1_ (by omega) | exact nI_1 _ | exact n8_ _ | rfl | exact PR_a (by assumption) | exact PR_o (by assumption) | exact PR_d4 (by assumption) | assumption) (by omega) (by first | decide | omega) (by first | decide | omega) (fun hb1 s1 h1 _ => ?_)
    | with_reducible refine q_leaf' (by assumption) (by first | exact nlo_ _ | exact nsb1_ (by omega) | exact nI_1 _ | exact n8_ _ | rfl | exact PR_a (by assumption) | exact PR_o (by assumption) | exact PR_d4 (by assumption) | assumption) (by first | exact nlo_ _ | exact nsb1_ (by omega) | exact nI_1 _ | exact n8_ _ | rfl | exact PR_a (by assumption) | exact PR_o (by assumption) | exact PR_d4 (by assumption) | assumption) rfl (by omega) (by decide) (by first | decide | omega) (fun s1 h1 => ?_)
    | with_reducible refine q_leafp (by assumption) (PR_a (by assumption)) (by omega) (by first | exact nlo_ _ | exact nsb1_ (by omega) | exact nI_1 _ | exact n8_ _ | rfl | exact PR_a (by assumption) | exact PR_o (by assumption) | exact PR_d4 (by assumption) | assumption) (by first | exact nlo_ _ | exact nsb1_ (by omega) | exact nI_1 _ | exact n8_ _ | rfl | exact PR_a (by assumption) | exact PR_o (by assumption) | exact PR_d4 (by assumption) | assumption) rfl (by omega) (by decide) (by first | decide | omega) (fun s1 h1 => ?_)
    | with_reducible refine q_labels' (by assumption) (by omega) (by omega) (fun s1 os1 p1 n1 el1 h1 => ?_)
    | with_reducible refine q_tqy (by assumption) ?_
    | with_reducible refine q_tqn (by assumption) ?_
    | with_reducible refine q_30 (by assumption) (by omega) (fun s1 h1 => ?_)
    | with_reducible refine q_ite (fun hk1 => ?_) (fun hk0 => ?_)
    | contradiction
    | with_reducible exact absurd (And.intro (by assumption) (by assumption)) (by assumption)
    | (exfalso; omega)
    | simp only [nx 0 (by decide), gpT, List.cons_append, List.nil_append, show (0 : Int32) &&& 1 = 0 from rfl, show (1 : Int32) &&& 1 = 1 from rfl, show ¬ ((1 : Int32) = 0) by decide, show ¬ ((0 : Int32) = 1) by decide, if_true, if_false, eq_self_iff_true]
    | split
set_option maxRecDepth 8000 in
set_option maxHeartbeats 1000000 in
theorem g_17 (d x y z : Nat) (h : PR K V N lx s (gs, os, p, dp, sc, n)) (hg : gs.length + 10 ≤ 9000) (hs : sc.length < 70) (hp : p ≤ N) (hn : n + (N - p) + 10 ≤ 26000) (hd : dp ≤ 60) (hx : x < 2 ^ 26) (hy : y < 2 ^ 26) (hz : z < 2 ^ 26) : pq_ K V N lx (pg_17 K V N lx x y z (gs, os, p, dp, sc, n)) (mE (d + 8) 33 [vr_ (some 0), vi_ (nI 17), vi_ (nI x), vi_ (nI y), vi_ (nI z)] s) := by
  have t2 := h.1.2.1
  have nk : ∀ q c, c < 2 ^ 31 → (nI (K q) = (OfNat.ofNat c : Int32)) = (K q = c) := fun q c hc => neq1_ c (PT_k h.1 q) hc
  have nx : ∀ c, c < 2 ^ 31 → (nI x = (OfNat.ofNat c : Int32)) = (x = c) := fun c hc => neq1_ c (by omega) hc
  have hol := PO_len h.2.2.2.2.2
  rw [me_reach]
  rw [if_pos (by decide), mj_reach_22]
  rw [if_neg (by decide), if_neg (by decide), if_neg (by decide), if_neg (by decide), if_neg (by decide), if_pos (by decide)]
  dsimp only [pg_17]
  repeat' first
    | with_reducible exact q_none
    | with_reducible exact q_ok (by assumption)
    | with_reducible exact q_okd (by assumption) (by omega)
    | with_reducible exact q_fl (by assumption)
    | with_reducible exact q_fl' (by assumption) (by assumption)
    | with_reducible exact q_okp (by assumption) (by omega) (PR_a (by assumption))
    | with_reducible refine q_goal' (by assumption) (by first | exact nlo_ _ | exact nsb1_ (by omega) | exact nI_1 _ | exact n8_ _ | rfl | exact PR_a (by assumption) | exact PR_o (by assumption) | exact PR_d4 (by assumption) | assumption) (by first | exact nlo_ _ | exact nsb1_ (by omega) | exact nI_1 _ | exact n8_ _ | rfl | exact PR_a (by assumption) | exact PR_o (by assumption) | exact PR_d4 (by assumption) | assumption) (by first | exact nlo_ _ | exact nsb1_ (by omega) | exact nI_1 _ | exact n8_ _ | rfl | exact PR_a (by assumption) | exact PR_o (by assumption) | exact PR_d4 (by assumption) | assumption) (by first | exact nlo_ _ | exact nsb1_ (by omega) | exact nI_1 _ | exact n8_ _ | rfl | exact PR_a (by assumption) | exact PR_o (by assumption) | exact PR_d4 (by assumption) | assumption) (by first | omega | (simp only [List.length_cons]; omega)) ⟨by first | decide | omega, by first | decide | omega, by first | decide | omega, by first | decide | omega⟩ (fun s1 h1 => ?_)
    | with_reducible refine q_goalp (by assumption) (PR_a (by assumption)) (by omega) (by first | exact nlo_ _ | exact nsb1_ (by omega) | exact nI_1 _ | exact n8_ _ | rfl | exact PR_a (by assumption) | exact PR_o (by assumption) | exact PR_d4 (by assumption) | assumption) (by first | exact nlo_ _ | exact nsb1_ (by omega) | exact nI_1 _ | exact n8_ _ | rfl | exact PR_a (by assumption) | exact PR_o (by assumption) | exact PR_d4 (by assumption) | assumption) (by first | exact nlo_ _ | exact nsb1_ (by omega) | exact nI_1 _ | exact n8_ _ | rfl | exact PR_a (by assumption) | exact PR_o (by assumption) | exact PR_d4 (by assumption) | assumption) (by first | exact nlo_ _ | exact nsb1_ (by omega) | exact nI_1 _ | exact n8_ _ | rfl | exact PR_a (by assumption) | exact PR_o (by assumption) | exact PR_d4 (by assumption) | assumption) (by first | omega | (simp only [List.length_cons]; omega)) ⟨by first | decide | omega, by first | decide | omega, by first | decide | omega, by first | decide | omega⟩ (fun s1 h1 => ?_)
    | with_reducible refine q_tk (by assumption) ?_
    | with_reducible refine q_tkp (by assumption) (PR_a (by assumption)) (by omega) (fun s1 h1 => ?_)
    | with_reducible refine q_takeq (by assumption) (by first | exact nlo_ _ | rfl) (by first | decide | omega) (by first | decide | omega) (fun hk1 s1 h1 => ?_) ?_
    | with_reducible refine q_take' (by assumption) (by first | exact nlo_ _ | rfl) (by first | decide | omega) (by first | decide | omega) (fun hk1 s1 h1 => ?_) (fun hk0 => ?_)
    | with_reducible refine q_takep (by assumption) (PR_a (by assumption)) (by omega) (by first | exact nlo_ _ | rfl) (by first | decide | omega) (by first | decide | omega) (fun hk1 s1 h1 => ?_) (fun hk0 s1 h1 => ?_)
    | with_reducible refine q_openp (by assumption) (PR_a (by assumption)) (by omega) (by omega) (by omega) (fun s1 h1 => ?_) (fun hk1 hd1 s1 h1 => ?_)
    | with_reducible refine q_deep (by assumption) (fun hd0 => ?_) (fun hd1 s1 h1 => ?_) (by omega)
    | with_reducible refine q_openq (by assumption) (by omega) (by omega) ?_ (fun hk1 hd1 s1 h1 => ?_)
    | with_reducible refine q_shutS (by assumption) (by omega) (fun s1 e1 t1 => ?_) (fun s1 p1 d1 sc1 h1 hp1 => ?_)
    | with_reducible refine q_shut' (by assumption) (by first | exact nlo_ _ | exact nsb1_ (by omega) | exact nI_1 _ | exact n8_ _ | rfl | exact PR_a (by assumption) | exact PR_o (by assumption) | exact PR_d4 (by assumption) | assumption) (by first | exact nlo_ _ | exact nsb1_ (by omega) | exact nI_1 _ | exact n8_ _ | rfl | exact PR_a (by assumption) | exact PR_o (by assumption) | exact PR_d4 (by assumption) | assumption) (by first | exact nlo_ _ | exact nsb1_ (by omega) | exact nI_1 _ | exact n8_ _ | rfl | exact PR_a (by assumption) | exact PR_o (by assumption) | exact PR_d4 (by assumption) | assumption) (by first | exact nlo_ _ | exact nsb1_ (by omega) | exact nI_1 _ | exact n8_ _ | rfl | exact PR_a (by assumption) | exact PR_o (by assumption) | exact PR_d4 (by assumption) | assumption) (by omega) (by first | decide | omega) (by first | decide | omega) (fun hb1 s1 h1 _ => ?_)
    | with_reducible refine q_leaf' (by assumption) (by first | exact nlo_ _ | exact nsb1_ (by omega) | exact nI_1 _ | exact n8_ _ | rfl | exact PR_a (by assumption) | exact PR_o (by assumption) | exact PR_d4 (by assumption) | assumption) (by first | exact nlo_ _ | exact nsb1_ (by omega) | exact nI_1 _ | exact n8_ _ | rfl | exact PR_a (by assumption) | exact PR_o (by assumption) | exact PR_d4 (by assumption) | assumption) rfl (by omega) (by decide) (by first | decide | omega) (fun s1 h1 => ?_)
    | with_reducible refine q_leafp (by assumption) (PR_a (by assumption)) (by omega) (by first | exact nlo_ _ | exact nsb1_ (by omega) | exact nI_1 _ | exact n8_ _ | rfl | exact PR_a (by assumption) | exact PR_o (by assumption) | exact PR_d4 (by assumption) | assumption) (by first | exact nlo_ _ | exact nsb1_ (by omega) | exact nI_1 _ | exact n8_ _ | rfl | exact PR_a (by assumption) | exact PR_o (by assumption) | exact PR_d4 (by assumption) | assumption) rfl (by omega) (by decide) (by first | decide | omega) (fun s1 h1 => ?_)
    | with_reducible refine q_labels' (by assumption) (by omega) (by omega) (fun s1 os1 p1 n1 el1 h1 => ?_)
    | with_reducible refine q_tqy (by assumption) ?_
    | with_reducible refine q_tqn (by assumption) ?_
    | with_reducible refine q_30 (by assumption) (by omega) (fun s1 h1 => ?_)
    | with_reducible refine q_ite (fun hk1 => ?_) (fun hk0 => ?_)
    | contradiction
    | with_reducible exact absurd (And.intro (by assumption) (by assumption)) (by assumption)
    | (exfalso; omega)
    | simp only [gpT, List.cons_append, List.nil_append, show (0 : Int32) &&& 1 = 0 from rfl, show (1 : Int32) &&& 1 = 1 from rfl, show ¬ ((1 : Int32) = 0) by decide, show ¬ ((0 : Int32) = 1) by decide, if_true, if_false, eq_self_iff_true]
    | split
set_option maxRecDepth 8000 in
set_option maxHeartbeats 1000000 in
theorem g_2 (d x y z : Nat) (h : PR K V N lx s (gs, os, p, dp, sc, n)) (hg : gs.length + 10 ≤ 9000) (hs : sc.length < 70) (hp : p ≤ N) (hn : n + (N - p) + 10 ≤ 26000) (hd : dp ≤ 60) (hx : x < 2 ^ 26) (hy : y < 2 ^ 26) (hz : z < 2 ^ 26) : pq_ K V N lx (pg_2 K V N lx x y z (gs, os, p, dp, sc, n)) (mE (d + 8) 33 [vr_ (some 0), vi_ (nI 2), vi_ (nI x), vi_ (nI y), vi_ (nI z)] s) := by
  have t2 := h.1.2.1
  have nk : ∀ q c, c < 2 ^ 31 → (nI (K q) = (OfNat.ofNat c : Int32)) = (K q = c) := fun q c hc => neq1_ c (PT_k h.1 q) hc
  have nx : ∀ c, c < 2 ^ 31 → (nI x = (OfNat.ofNat c : Int32)) = (x = c) := fun c hc => neq1_ c (by omega) hc
  have hol := PO_len h.2.2.2.2.2
  rw [me_reach]
  rw [if_pos (by decide), mj_reach_22]
  rw [if_neg (by decide), if_pos (by decide)]
  dsimp only [pg_2]
  repeat' first
    | with_reducible exact q_none
    | with_reducible exact q_ok (by assumption)
    | with_reducible exact q_okd (by assumption) (by omega)
    | with_reducible exact q_fl (by assumption)
    | with_reducible exact q_fl' (by assumption) (by assumption)
    | with_reducible exact q_okp (by assumption) (by omega) (PR_a (by assumption))
    | with_reducible refine q_goal' (by assumption) (by first | exact nlo_ _ | exact nsb1_ (by omega) | exact nI_1 _ | exact n8_ _ | rfl | exact PR_a (by assumption) | exact PR_o (by assumption) | exact PR_d4 (by assumption) | assumption) (by first | exact nlo_ _ | exact nsb1_ (by omega) | exact nI_1 _ | exact n8_ _ | rfl | exact PR_a (by assumption) | exact PR_o (by assumption) | exact PR_d4 (by assumption) | assumption) (by first | exact nlo_ _ | exact nsb1_ (by omega) | exact nI_1 _ | exact n8_ _ | rfl | exact PR_a (by assumption) | exact PR_o (by assumption) | exact PR_d4 (by assumption) | assumption) (by first | exact nlo_ _ | exact nsb1_ (by omega) | exact nI_1 _ | exact n8_ _ | rfl | exact PR_a (by assumption) | exact PR_o (by assumption) | exact PR_d4 (by assumption) | assumption) (by first | omega | (simp only [List.length_cons]; omega)) ⟨by first | decide | omega, by first | decide | omega, by first | decide | omega, by first | decide | omega⟩ (fun s1 h1 => ?_)
    | with_reducible refine q_goalp (by assumption) (PR_a (by assumption)) (by omega) (by first | exact nlo_ _ | exact nsb1_ (by omega) | exact nI_1 _ | exact n8_ _ | rfl | exact PR_a (by assumption) | exact PR_o (by assumption) | exact PR_d4 (by assumption) | assumption) (by first | exact nlo_ _ | exact nsb1_ (by omega) | exact nI_1 _ | exact n8_ _ | rfl | exact PR_a (by assumption) | exact PR_o (by assumption) | exact PR_d4 (by assumption) | assumption) (by first | exact nlo_ _ | exact nsb1_ (by omega) | exact nI_1 _ | exact n8_ _ | rfl | exact PR_a (by assumption) | exact PR_o (by assumption) | exact PR_d4 (by assumption) | assumption) (by first | exact nlo_ _ | exact nsb1_ (by omega) | exact nI_1 _ | exact n8_ _ | rfl | exact PR_a (by assumption) | exact PR_o (by assumption) | exact PR_d4 (by assumption) | assumption) (by first | omega | (simp only [List.length_cons]; omega)) ⟨by first | decide | omega, by first | decide | omega, by first | decide | omega, by first | decide | omega⟩ (fun s1 h1 => ?_)
    | with_reducible refine q_tk (by assumption) ?_
    | with_reducible refine q_tkp (by assumption) (PR_a (by assumption)) (by omega) (fun s1 h1 => ?_)
    | with_reducible refine q_takeq (by assumption) (by first | exact nlo_ _ | rfl) (by first | decide | omega) (by first | decide | omega) (fun hk1 s1 h1 => ?_) ?_
    | with_reducible refine q_take' (by assumption) (by first | exact nlo_ _ | rfl) (by first | decide | omega) (by first | decide | omega) (fun hk1 s1 h1 => ?_) (fun hk0 => ?_)
    | with_reducible refine q_takep (by assumption) (PR_a (by assumption)) (by omega) (by first | exact nlo_ _ | rfl) (by first | decide | omega) (by first | decide | omega) (fun hk1 s1 h1 => ?_) (fun hk0 s1 h1 => ?_)
    | with_reducible refine q_openp (by assumption) (PR_a (by assumption)) (by omega) (by omega) (by omega) (fun s1 h1 => ?_) (fun hk1 hd1 s1 h1 => ?_)
    | with_reducible refine q_deep (by assumption) (fun hd0 => ?_) (fun hd1 s1 h1 => ?_) (by omega)
    | with_reducible refine q_openq (by assumption) (by omega) (by omega) ?_ (fun hk1 hd1 s1 h1 => ?_)
    | with_reducible refine q_shutS (by assumption) (by omega) (fun s1 e1 t1 => ?_) (fun s1 p1 d1 sc1 h1 hp1 => ?_)
    | with_reducible refine q_shut' (by assumption) (by first | exact nlo_ _ | exact nsb1_ (by omega) | exact nI_1 _ | exact n8_ _ | rfl | exact PR_a (by assumption) | exact PR_o (by assumption) | exact PR_d4 (by assumption) | assumption) (by first | exact nlo_ _ | exact nsb1_ (by omega) | exact nI_1 _ | exact n8_ _ | rfl | exact PR_a (by assumption) | exact PR_o (by assumption) | exact PR_d4 (by assumption) | assumption) (by first | exact nlo_ _ | exact nsb1_ (by omega) | exact nI_1 _ | exact n8_ _ | rfl | exact PR_a (by assumption) | exact PR_o (by assumption) | exact PR_d4 (by assumption) | assumption) (by first | exact nlo_ _ | exact nsb1_ (by omega) | exact nI_1 _ | exact n8_ _ | rfl | exact PR_a (by assumption) | exact PR_o (by assumption) | exact PR_d4 (by assumption) | assumption) (by omega) (by first | decide | omega) (by first | decide | omega) (fun hb1 s1 h1 _ => ?_)
    | with_reducible refine q_leaf' (by assumption) (by first | exact nlo_ _ | exact nsb1_ (by omega) | exact nI_1 _ | exact n8_ _ | rfl | exact PR_a (by assumption) | exact PR_o (by assumption) | exact PR_d4 (by assumption) | assumption) (by first | exact nlo_ _ | exact nsb1_ (by omega) | exact nI_1 _ | exact n8_ _ | rfl | exact PR_a (by assumption) | exact PR_o (by assumption) | exact PR_d4 (by assumption) | assumption) rfl (by omega) (by decide) (by first | decide | omega) (fun s1 h1 => ?_)
    | with_reducible refine q_leafp (by assumption) (PR_a (by assumption)) (by omega) (by first | exact nlo_ _ | exact nsb1_ (by omega) | exact nI_1 _ | exact n8_ _ | rfl | exact PR_a (by assumption) | exact PR_o (by assumption) | exact PR_d4 (by assumption) | assumption) (by first | exact nlo_ _ | exact nsb1_ (by omega) | exact nI_1 _ | exact n8_ _ | rfl | exact PR_a (by assumption) | exact PR_o (by assumption) | exact PR_d4 (by assumption) | assumption) rfl (by omega) (by decide) (by first | decide | omega) (fun s1 h1 => ?_)
    | with_reducible refine q_labels' (by assumption) (by omega) (by omega) (fun s1 os1 p1 n1 el1 h1 => ?_)
    | with_reducible refine q_tqy (by assumption) ?_
    | with_reducible refine q_tqn (by assumption) ?_
    | with_reducible refine q_30 (by assumption) (by omega) (fun s1 h1 => ?_)
    | simp only [PR_a h, h.1.1, neq_ (show p < 2 ^ 31 by omega) (show N < 2 ^ 31 by omega), h.1.2.2.2.2.2]
    | simp only [PR_a h1, h1.1.1, neq_ (show p + 1 < 2 ^ 31 by omega) (show N < 2 ^ 31 by omega), h1.1.2.2.2.2.2]
    | with_reducible refine q_ite (fun hk1 => ?_) (fun hk0 => ?_)
    | contradiction
    | with_reducible exact absurd (And.intro (by assumption) (by assumption)) (by assumption)
    | (exfalso; omega)
    | simp only [fun q => nk q 15 (by decide), gpT, List.cons_append, List.nil_append, show (0 : Int32) &&& 1 = 0 from rfl, show (1 : Int32) &&& 1 = 1 from rfl, show ¬ ((1 : Int32) = 0) by decide, show ¬ ((0 : Int32) = 1) by decide, if_true, if_false, eq_self_iff_true]
    | split
set_option maxRecDepth 8000 in
set_option maxHeartbeats 1000000 in
theorem g_13 (d x y z : Nat) (h : PR K V N lx s (gs, os, p, dp, sc, n)) (hg : gs.length + 10 ≤ 9000) (hs : sc.length < 70) (hp : p ≤ N) (hn : n + (N - p) + 10 ≤ 26000) (hd : dp ≤ 60) (hx : x < 2 ^ 26) (hy : y < 2 ^ 26) (hz : z < 2 ^ 26) : pq_ K V N lx (pg_13 K V N lx x y z (gs, os, p, dp, sc, n)) (mE (d + 8) 33 [vr_ (some 0), vi_ (nI 13), vi_ (nI x), vi_ (nI y), vi_ (nI z)] s) := by
  have t2 := h.1.2.1
  have nk : ∀ q c, c < 2 ^ 31 → (nI (K q) = (OfNat.ofNat c : Int32)) = (K q = c) := fun q c hc => neq1_ c (PT_k h.1 q) hc
  have nx : ∀ c, c < 2 ^ 31 → (nI x = (OfNat.ofNat c : Int32)) = (x = c) := fun c hc => neq1_ c (by omega) hc
  have hol := PO_len h.2.2.2.2.2
  rw [me_reach]
  rw [if_pos (by decide), mj_reach_22]
  rw [if_neg (by decide), if_neg (by decide), if_neg (by decide), if_neg (by decide), if_neg (by decide), if_neg (by decide), if_pos (by decide)]
  dsimp only [pg_13]
  cases hdl : dl_ (K p)
  repeat' first
    | with_reducible exact q_none
    | with_reducible exact q_ok (by assumption)
    | with_reducible exact q_okd (by assumption) (by omega)
    | with_reducible exact q_fl (by assumption)
    | with_reducible exact q_fl' (by assumption) (by assumption)
    | with_reducible exact q_okp (by assumption) (by omega) (PR_a (by assumption))
    | with_reducible refine q_goal' (by assumption) (by first | exact nlo_ _ | exact nsb1_ (by omega) | exact nI_1 _ | exact n8_ _ | rfl | exact PR_a (by assumption) | exact PR_o (by assumption) | exact PR_d4 (by assumption) | assumption) (by first | exact nlo_ _ | exact nsb1_ (by omega) | exact nI_1 _ | exact n8_ _ | rfl | exact PR_a (by assumption) | exact PR_o (by assumption) | exact PR_d4 (by assumption) | assumption) (by first | exact nlo_ _ | exact nsb1_ (by omega) | exact nI_1 _ | exact n8_ _ | rfl | exact PR_a (by assumption) | exact PR_o (by assumption) | exact PR_d4 (by assumption) | assumption) (by first | exact nlo_ _ | exact nsb1_ (by omega) | exact nI_1 _ | exact n8_ _ | rfl | exact PR_a (by assumption) | exact PR_o (by assumption) | exact PR_d4 (by assumption) | assumption) (by first | omega | (simp only [List.length_cons]; omega)) ⟨by first | decide | omega, by first | decide | omega, by first | decide | omega, by first | decide | omega⟩ (fun s1 h1 => ?_)
    | with_reducible refine q_goalp (by assumption) (PR_a (by assumption)) (by omega) (by first | exact nlo_ _ | exact nsb1_ (by omega) | exact nI_1 _ | exact n8_ _ | rfl | exact PR_a (by assumption) | exact PR_o (by assumption) | exact PR_d4 (by assumption) | assumption) (by first | exact nlo_ _ | exact nsb1_ (by omega) | exact nI_1 _ | exact n8_ _ | rfl | exact PR_a (by assumption) | exact PR_o (by assumption) | exact PR_d4 (by assumption) | assumption) (by first | exact nlo_ _ | exact nsb1_ (by omega) | exact nI_1 _ | exact n8_ _ | rfl | exact PR_a (by assumption) | exact PR_o (by assumption) | exact PR_d4 (by assumption) | assumption) (by first | exact nlo_ _ | exact nsb1_ (by omega) | exact nI_1 _ | exact n8_ _ | rfl | exact PR_a (by assumption) | exact PR_o (by assumption) | exact PR_d4 (by assumption) | assumption) (by first | omega | (simp only [List.length_cons]; omega)) ⟨by first | decide | omega, by first | decide | omega, by first | decide | omega, by first | decide | omega⟩ (fun s1 h1 => ?_)
    | with_reducible refine q_tk (by assumption) ?_
    | with_reducible refine q_tkp (by assumption) (PR_a (by assumption)) (by omega) (fun s1 h1 => ?_)
    | with_reducible refine q_takeq (by assumption) (by first | exact nlo_ _ | rfl) (by first | decide | omega) (by first | decide | omega) (fun hk1 s1 h1 => ?_) ?_
    | with_reducible refine q_take' (by assumption) (by first | exact nlo_ _ | rfl) (by first | decide | omega) (by first | decide | omega) (fun hk1 s1 h1 => ?_) (fun hk0 => ?_)
    | with_reducible refine q_takep (by assumption) (PR_a (by assumption)) (by omega) (by first | exact nlo_ _ | rfl) (by first | decide | omega) (by first | decide | omega) (fun hk1 s1 h1 => ?_) (fun hk0 s1 h1 => ?_)
    | with_reducible refine q_openp (by assumption) (PR_a (by assumption)) (by omega) (by omega) (by omega) (fun s1 h1 => ?_) (fun hk1 hd1 s1 h1 => ?_)
    | with_reducible refine q_deep (by assumption) (fun hd0 => ?_) (fun hd1 s1 h1 => ?_) (by omega)
    | with_reducible refine q_openq (by assumption) (by omega) (by omega) ?_ (fun hk1 hd1 s1 h1 => ?_)
    | with_reducible refine q_shutS (by assumption) (by omega) (fun s1 e1 t1 => ?_) (fun s1 p1 d1 sc1 h1 hp1 => ?_)
    | with_reducible refine q_shut' (by assumption) (by first | exact nlo_ _ | exact nsb1_ (by omega) | exact nI_1 _ | exact n8_ _ | rfl | exact PR_a (by assumption) | exact PR_o (by assumption) | exact PR_d4 (by assumption) | assumption) (by first | exact nlo_ _ | exact nsb1_ (by omega) | exact nI_1 _ | exact n8_ _ | rfl | exact PR_a (by assumption) | exact PR_o (by assumption) | exact PR_d4 (by assumption) | assumption) (by first | exact nlo_ _ | exact nsb1_ (by omega) | exact nI_1 _ | exact n8_ _ | rfl | exact PR_a (by assumption) | exact PR_o (by assumption) | exact PR_d4 (by assumption) | assumption) (by first | exact nlo_ _ | exact nsb1_ (by omega) | exact nI_1 _ | exact n8_ _ | rfl | exact PR_a (by assumption) | exact PR_o (by assumption) | exact PR_d4 (by assumption) | assumption) (by omega) (by first | decide | omega) (by first | decide | omega) (fun hb1 s1 h1 _ => ?_)
    | with_reducible refine q_leaf' (by assumption) (by first | exact nlo_ _ | exact nsb1_ (by omega) | exact nI_1 _ | exact n8_ _ | rfl | exact PR_a (by assumption) | exact PR_o (by assumption) | exact PR_d4 (by assumption) | assumption) (by first | exact nlo_ _ | exact nsb1_ (by omega) | exact nI_1 _ | exact n8_ _ | rfl | exact PR_a (by assumption) | exact PR_o (by assumption) | exact PR_d4 (by assumption) | assumption) rfl (by omega) (by decide) (by first | decide | omega) (fun s1 h1 => ?_)
    | with_reducible refine q_leafp (by assumption) (PR_a (by assumption)) (by omega) (by first | exact nlo_ _ | exact nsb1_ (by omega) | exact nI_1 _ | exact n8_ _ | rfl | exact PR_a (by assumption) | exact PR_o (by assumption) | exact PR_d4 (by assumption) | assumption) (by first | exact nlo_ _ | exact nsb1_ (by omega) | exact nI_1 _ | exact n8_ _ | rfl | exact PR_a (by assumption) | exact PR_o (by assumption) | exact PR_d4 (by assumption) | assumption) rfl (by omega) (by decide) (by first | decide | omega) (fun s1 h1 => ?_)
    | with_reducible refine q_labels' (by assumption) (by omega) (by omega) (fun s1 os1 p1 n1 el1 h1 => ?_)
    | with_reducible refine q_tqy (by assumption) ?_
    | with_reducible refine q_tqn (by assumption) ?_
    | with_reducible refine q_30 (by assumption) (by omega) (fun s1 h1 => ?_)
    | rw [m_isDoless _ _ _ (PT_k h.1 _), bI_s]
    | with_reducible refine q_ite (fun hk1 => ?_) (fun hk0 => ?_)
    | contradiction
    | with_reducible exact absurd (And.intro (by assumption) (by assumption)) (by assumption)
    | (exfalso; omega)
    | simp only [hdl, zb_0, Bool.false_eq_true, Bool.true_eq_false, fun q => nk q 48 (by decide), gpT, List.cons_append, List.nil_append, show (0 : Int32) &&& 1 = 0 from rfl, show (1 : Int32) &&& 1 = 1 from rfl, show ¬ ((1 : Int32) = 0) by decide, show ¬ ((0 : Int32) = 1) by decide, if_true, if_false, eq_self_iff_true]
    | split
set_option maxRecDepth 8000 in
set_option maxHeartbeats 1000000 in
theorem g_14 (d x y z : Nat) (h : PR K V N lx s (gs, os, p, dp, sc, n)) (hg : gs.length + 10 ≤ 9000) (hs : sc.length < 70) (hp : p ≤ N) (hn : n + (N - p) + 10 ≤ 26000) (hd : dp ≤ 60) (hx : x < 2 ^ 26) (hy : y < 2 ^ 26) (hz : z < 2 ^ 26) : pq_ K V N lx (pg_14 K V N lx x y z (gs, os, p, dp, sc, n)) (mE (d + 8) 33 [vr_ (some 0), vi_ (nI 14), vi_ (nI x), vi_ (nI y), vi_ (nI z)] s) := by
  have t2 := h.1.2.1
  have nk : ∀ q c, c < 2 ^ 31 → (nI (K q) = (OfNat.ofNat c : Int32)) = (K q = c) := fun q c hc => neq1_ c (PT_k h.1 q) hc
  have nx : ∀ c, c < 2 ^ 31 → (nI x = (OfNat.ofNat c : Int32)) = (x = c) := fun c hc => neq1_ c (by omega) hc
  have hol := PO_len h.2.2.2.2.2
  rw [me_reach]
  rw [if_pos (by decide), mj_reach_22]
  rw [if_neg (by decide), if_neg (by decide), if_neg (by decide), if_neg (by decide), if_neg (by decide), if_neg (by decide), if_neg (by decide), if_pos (by decide)]
  dsimp only [pg_14]
  repeat' first
    | with_reducible exact q_none
    | with_reducible exact q_ok (by assumption)
    | with_reducible exact q_okd (by assumption) (by omega)
    | with_reducible exact q_fl (by assumption)
    | with_reducible exact q_fl' (by assumption) (by assumption)
    | with_reducible exact q_okp (by assumption) (by omega) (PR_a (by assumption))
    | with_reducible refine q_goal' (by assumption) (by first | exact nlo_ _ | exact nsb1_ (by omega) | exact nI_1 _ | exact n8_ _ | rfl | exact PR_a (by assumption) | exact PR_o (by assumption) | exact PR_d4 (by assumption) | assumption) (by first | exact nlo_ _ | exact nsb1_ (by omega) | exact nI_1 _ | exact n8_ _ | rfl | exact PR_a (by assumption) | exact PR_o (by assumption) | exact PR_d4 (by assumption) | assumption) (by first | exact nlo_ _ | exact nsb1_ (by omega) | exact nI_1 _ | exact n8_ _ | rfl | exact PR_a (by assumption) | exact PR_o (by assumption) | exact PR_d4 (by assumption) | assumption) (by first | exact nlo_ _ | exact nsb1_ (by omega) | exact nI_1 _ | exact n8_ _ | rfl | exact PR_a (by assumption) | exact PR_o (by assumption) | exact PR_d4 (by assumption) | assumption) (by first | omega | (simp only [List.length_cons]; omega)) ⟨by first | decide | omega, by first | decide | omega, by first | decide | omega, by first | decide | omega⟩ (fun s1 h1 => ?_)
    | with_reducible refine q_goalp (by assumption) (PR_a (by assumption)) (by omega) (by first | exact nlo_ _ | exact nsb1_ (by omega) | exact nI_1 _ | exact n8_ _ | rfl | exact PR_a (by assumption) | exact PR_o (by assumption) | exact PR_d4 (by assumption) | assumption) (by first | exact nlo_ _ | exact nsb1_ (by omega) | exact nI_1 _ | exact n8_ _ | rfl | exact PR_a (by assumption) | exact PR_o (by assumption) | exact PR_d4 (by assumption) | assumption) (by first | exact nlo_ _ | exact nsb1_ (by omega) | exact nI_1 _ | exact n8_ _ | rfl | exact PR_a (by assumption) | exact PR_o (by assumption) | exact PR_d4 (by assumption) | assumption) (by first | exact nlo_ _ | exact nsb1_ (by omega) | exact nI_1 _ | exact n8_ _ | rfl | exact PR_a (by assumption) | exact PR_o (by assumption) | exact PR_d4 (by assumption) | assumption) (by first | omega | (simp only [List.length_cons]; omega)) ⟨by first | decide | omega, by first | decide | omega, by first | decide | omega, by first | decide | omega⟩ (fun s1 h1 => ?_)
    | with_reducible refine q_tk (by assumption) ?_
    | with_reducible refine q_tkp (by assumption) (PR_a (by assumption)) (by omega) (fun s1 h1 => ?_)
    | with_reducible refine q_takeq (by assumption) (by first | exact nlo_ _ | rfl) (by first | decide | omega) (by first | decide | omega) (fun hk1 s1 h1 => ?_) ?_
    | with_reducible refine q_take' (by assumption) (by first | exact nlo_ _ | rfl) (by first | decide | omega) (by first | decide | omega) (fun hk1 s1 h1 => ?_) (fun hk0 => ?_)
    | with_reducible refine q_takep (by assumption) (PR_a (by assumption)) (by omega) (by first | exact nlo_ _ | rfl) (by first | decide | omega) (by first | decide | omega) (fun hk1 s1 h1 => ?_) (fun hk0 s1 h1 => ?_)
    | with_reducible refine q_openp (by assumption) (PR_a (by assumption)) (by omega) (by omega) (by omega) (fun s1 h1 => ?_) (fun hk1 hd1 s1 h1 => ?_)
    | with_reducible refine q_deep (by assumption) (fun hd0 => ?_) (fun hd1 s1 h1 => ?_) (by omega)
    | with_reducible refine q_openq (by assumption) (by omega) (by omega) ?_ (fun hk1 hd1 s1 h1 => ?_)
    | with_reducible refine q_shutS (by assumption) (by omega) (fun s1 e1 t1 => ?_) (fun s1 p1 d1 sc1 h1 hp1 => ?_)
    | with_reducible refine q_shut' (by assumption) (by first | exact nlo_ _ | exact nsb1_ (by omega) | exact nI_1 _ | exact n8_ _ | rfl | exact PR_a (by assumption) | exact PR_o (by assumption) | exact PR_d4 (by assumption) | assumption) (by first | exact nlo_ _ | exact nsb1_ (by omega) | exact nI_1 _ | exact n8_ _ | rfl | exact PR_a (by assumption) | exact PR_o (by assumption) | exact PR_d4 (by assumption) | assumption) (by first | exact nlo_ _ | exact nsb1_ (by omega) | exact nI_1 _ | exact n8_ _ | rfl | exact PR_a (by assumption) | exact PR_o (by assumption) | exact PR_d4 (by assumption) | assumption) (by first | exact nlo_ _ | exact nsb1_ (by omega) | exact nI_1 _ | exact n8_ _ | rfl | exact PR_a (by assumption) | exact PR_o (by assumption) | exact PR_d4 (by assumption) | assumption) (by omega) (by first | decide | omega) (by first | decide | omega) (fun hb1 s1 h1 _ => ?_)
    | with_reducible refine q_leaf' (by assumption) (by first | exact nlo_ _ | exact nsb1_ (by omega) | exact nI_1 _ | exact n8_ _ | rfl | exact PR_a (by assumption) | exact PR_o (by assumption) | exact PR_d4 (by assumption) | assumption) (by first | exact nlo_ _ | exact nsb1_ (by omega) | exact nI_1 _ | exact n8_ _ | rfl | exact PR_a (by assumption) | exact PR_o (by assumption) | exact PR_d4 (by assumption) | assumption) rfl (by omega) (by decide) (by first | decide | omega) (fun s1 h1 => ?_)
    | with_reducible refine q_leafp (by assumption) (PR_a (by assumption)) (by omega) (by first | exact nlo_ _ | exact nsb1_ (by omega) | exact nI_1 _ | exact n8_ _ | rfl | exact PR_a (by assumption) | exact PR_o (by assumption) | exact PR_d4 (by assumption) | assumption) (by first | exact nlo_ _ | exact nsb1_ (by omega) | exact nI_1 _ | exact n8_ _ | rfl | exact PR_a (by assumption) | exact PR_o (by assumption) | exact PR_d4 (by assumption) | assumption) rfl (by omega) (by decide) (by first | decide | omega) (fun s1 h1 => ?_)
    | with_reducible refine q_labels' (by assumption) (by omega) (by omega) (fun s1 os1 p1 n1 el1 h1 => ?_)
    | with_reducible refine q_tqy (by assumption) ?_
    | with_reducible refine q_tqn (by assumption) ?_
    | with_reducible refine q_30 (by assumption) (by omega) (fun s1 h1 => ?_)
    | with_reducible refine q_ite (fun hk1 => ?_) (fun hk0 => ?_)
    | contradiction
    | with_reducible exact absurd (And.intro (by assumption) (by assumption)) (by assumption)
    | (exfalso; omega)
    | simp only [gpT, List.cons_append, List.nil_append, show (0 : Int32) &&& 1 = 0 from rfl, show (1 : Int32) &&& 1 = 1 from rfl, show ¬ ((1 : Int32) = 0) by decide, show ¬ ((0 : Int32) = 1) by decide, if_true, if_false, eq_self_iff_true]
    | split
set_option maxRecDepth 8000 in
set_option maxHeartbeats 1000000 in
theorem g_3 (d x y z : Nat) (h : PR K V N lx s (gs, os, p, dp, sc, n)) (hg : gs.length + 10 ≤ 9000) (hs : sc.length < 70) (hp : p ≤ N) (hn : n + (N - p) + 10 ≤ 26000) (hd : dp ≤ 60) (hx : x < 2 ^ 26) (hy : y < 2 ^ 26) (hz : z < 2 ^ 26) : pq_ K V N lx (pg_3 K V N lx x y z (gs, os, p, dp, sc, n)) (mE (d + 8) 34 [vr_ (some 0), vi_ (nI 3), vi_ (nI x), vi_ (nI y), vi_ (nI z)] s) := by
  have t2 := h.1.2.1
  have nk : ∀ q c, c < 2 ^ 31 → (nI (K q) = (OfNat.ofNat c : Int32)) = (K q = c) := fun q c hc => neq1_ c (PT_k h.1 q) hc
  have nx : ∀ c, c < 2 ^ 31 → (nI x = (OfNat.ofNat c : Int32)) = (x = c) := fun c hc => neq1_ c (by omega) hc
  have hol := PO_len h.2.2.2.2.2
  rw [me_reachD]
  refine q_tk h ?_
  rw [if_pos (by decide)]
  dsimp only [pg_3]
  have hD : isD_ (K p) = true → K p = 40 ∨ K p = 41 ∨ K p = 42 ∨ K p = 43 := by simp [isD_]
  rw [show d + 7 = d + 6 + 1 from rfl, m_isD (d + 6) (K p) s (PT_k h.1 p), bI_s]
  simp only [zb_0]
  by_cases hi : isD_ (K p) = true
  · have hpN : p < N := by
      rcases hD hi with e | e | e | e <;> exact PT_lt h.1 e (by decide)
    rw [if_pos hi, if_neg (c := isD_ (K p) = false) (by rw [hi]; decide)]
    rcases hD hi with e | e | e | e
    · rw [show 10 + K p = 50 by omega, if_neg (c := K p = 43) (by omega)]
      simp only [fun q => nk q 43 (by decide), fun q => nk q 40 (by decide), fun q => nk q 41 (by decide)]
      rw [if_neg (c := K p = 43) (by omega), if_pos (c := K p = 40) e, mj_reachD_98]
      repeat' first
        | with_reducible exact q_none
        | with_reducible exact q_ok (by assumption)
        | with_reducible exact q_okd (by assumption) (by omega)
        | with_reducible exact q_fl (by assumption)
        | with_reducible exact q_fl' (by assumption) (by assumption)
        | with_reducible exact q_okp (by assumption) (by omega) (PR_a (by assumption))
        | with_reducible refine q_goal' (by assumption) (by first | exact nlo_ _ | exact nsb1_ (by omega) | exact nI_1 _ | exact n8_ _ | rfl | exact PR_a (by assumption) | exact PR_o (by assumption) | exact PR_d4 (by assumption) | assumption) (by first | exact nlo_ _ | exact nsb1_ (by omega) | exact nI_1 _ | exact n8_ _ | rfl | exact PR_a (by assumption) | exact PR_o (by assumption) | exact PR_d4 (by assumption) | assumption) (by first | exact nlo_ _ | exact nsb1_ (by omega) | exact nI_1 _ | exact n8_ _ | rfl | exact PR_a (by assumption) | exact PR_o (by assumption) | exact PR_d4 (by assumption) | assumption) (by first | exact nlo_ _ | exact nsb1_ (by omega) | exact nI_1 _ | exact n8_ _ | rfl | exact PR_a (by assumption) | exact PR_o (by assumption) | exact PR_d4 (by assumption) | assumption) (by first | omega | (simp only [List.length_cons]; omega)) ⟨by first | decide | omega, by first | decide | omega, by first | decide | omega, by first | decide | omega⟩ (fun s1 h1 => ?_)
        | with_reducible refine q_goalp (by assumption) (PR_a (by assumption)) (by omega) (by first | exact nlo_ _ | exact nsb1_ (by omega) | exact nI_1 _ | exact n8_ _ | rfl | exact PR_a (by assumption) | exact PR_o (by assumption) | exact PR_d4 (by assumption) | assumption) (by first | exact nlo_ _ | exact nsb1_ (by omega) | exact nI_1 _ | exact n8_ _ | rfl | exact PR_a (by assumption) | exact PR_o (by assumption) | exact PR_d4 (by assumption) | assumption) (by first | exact nlo_ _ | exact nsb1_ (by omega) | exact nI_1 _ | exact n8_ _ | rfl | exact PR_a (by assumption) | exact PR_o (by assumption) | exact PR_d4 (by assumption) | assumption) (by first | exact nlo_ _ | exact nsb1_ (by omega) | exact nI_1 _ | exact n8_ _ | rfl | exact PR_a (by assumption) | exact PR_o (by assumption) | exact PR_d4 (by assumption) | assumption) (by first | omega | (simp only [List.length_cons]; omega)) ⟨by first | decide | omega, by first | decide | omega, by first | decide | omega, by first | decide | omega⟩ (fun s1 h1 => ?_)
        | with_reducible refine q_tk (by assumption) ?_
        | with_reducible refine q_tkp (by assumption) (PR_a (by assumption)) (by omega) (fun s1 h1 => ?_)
        | with_reducible refine q_takeq (by assumption) (by first | exact nlo_ _ | rfl) (by first | decide | omega) (by first | decide | omega) (fun hk1 s1 h1 => ?_) ?_
        | with_reducible refine q_take' (by assumption) (by first | exact nlo_ _ | rfl) (by first | decide | omega) (by first | decide | omega) (fun hk1 s1 h1 => ?_) (fun hk0 => ?_)
        | with_reducible refine q_takep (by assumption) (PR_a (by assumption)) (by omega) (by first | exact nlo_ _ | rfl) (by first | decide | omega) (by first | decide | omega) (fun hk1 s1 h1 => ?_) (fun hk0 s1 h1 => ?_)
        | with_reducible refine q_openp (by assumption) (PR_a (by assumption)) (by omega) (by omega) (by omega) (fun s1 h1 => ?_) (fun hk1 hd1 s1 h1 => ?_)
        | with_reducible refine q_deep (by assumption) (fun hd0 => ?_) (fun hd1 s1 h1 => ?_) (by omega)
        | with_reducible refine q_openq (by assumption) (by omega) (by omega) ?_ (fun hk1 hd1 s1 h1 => ?_)
        | with_reducible refine q_shutS (by assumption) (by omega) (fun s1 e1 t1 => ?_) (fun s1 p1 d1 sc1 h1 hp1 => ?_)
        | with_reducible refine q_shut' (by assumption) (by first | exact nlo_ _ | exact nsb1_ (by omega) | exact nI_1 _ | exact n8_ _ | rfl | exact PR_a (by assumption) | exact PR_o (by assumption) | exact PR_d4 (by assumption) | assumption) (by first | exact nlo_ _ | exact nsb1_ (by omega) | exact nI_1 _ | exact n8_ _ | rfl | exact PR_a (by assumption) | exact PR_o (by assumption) | exact PR_d4 (by assumption) | assumption) (by first | exact nlo_ _ | exact nsb1_ (by omega) | exact nI_1 _ | exact n8_ _ | rfl | exact PR_a (by assumption) | exact PR_o (by assumption) | exact PR_d4 (by assumption) | assumption) (by first | exact nlo_ _ | exact nsb1_ (by omega) | exact nI_1 _ | exact n8_ _ | rfl | exact PR_a (by assumption) | exact PR_o (by assumption) | exact PR_d4 (by assumption) | assumption) (by omega) (by first | decide | omega) (by first | decide | omega) (fun hb1 s1 h1 _ => ?_)
        | with_reducible refine q_leaf' (by assumption) (by first | exact nlo_ _ | exact nsb1_ (by omega) | exact nI_1 _ | exact n8_ _ | rfl | exact PR_a (by assumption) | exact PR_o (by assumption) | exact PR_d4 (by assumption) | assumption) (by first | exact nlo_ _ | exact nsb1_ (by omega) | exact nI_1 _ | exact n8_ _ | rfl | exact PR_a (by assumption) | exact PR_o (by assumption) | exact PR_d4 (by assumption) | assumption) rfl (by omega) (by decide) (by first | decide | omega) (fun s1 h1 => ?_)
        | with_reducible refine q_leafp (by assumption) (PR_a (by assumption)) (by omega) (by first | exact nlo_ _ | exact nsb1_ (by omega) | exact nI_1 _ | exact n8_ _ | rfl | exact PR_a (by assumption) | exact PR_o (by assumption) | exact PR_d4 (by assumption) | assumption) (by first | exact nlo_ _ | exact nsb1_ (by omega) | exact nI_1 _ | exact n8_ _ | rfl | exact PR_a (by assumption) | exact PR_o (by assumption) | exact PR_d4 (by assumption) | assumption) rfl (by omega) (by decide) (by first | decide | omega) (fun s1 h1 => ?_)
        | with_reducible refine q_labels' (by assumption) (by omega) (by omega) (fun s1 os1 p1 n1 el1 h1 => ?_)
        | with_reducible refine q_tqy (by assumption) ?_
        | with_reducible refine q_tqn (by assumption) ?_
        | with_reducible refine q_30 (by assumption) (by omega) (fun s1 h1 => ?_)
        | with_reducible refine q_ite (fun hk1 => ?_) (fun hk0 => ?_)
        | contradiction
        | with_reducible exact absurd (And.intro (by assumption) (by assumption)) (by assumption)
        | (exfalso; omega)
        | simp only [fun q => nk q 43 (by decide), gpT, List.cons_append, List.nil_append, show (0 : Int32) &&& 1 = 0 from rfl, show (1 : Int32) &&& 1 = 1 from rfl, show ¬ ((1 : Int32) = 0) by decide, show ¬ ((0 : Int32) = 1) by decide, if_true, if_false, eq_self_iff_true]
        | split
    · rw [show 10 + K p = 51 by omega, if_neg (c := K p = 43) (by omega)]
      simp only [fun q => nk q 43 (by decide), fun q => nk q 40 (by decide), fun q => nk q 41 (by decide)]
      rw [if_neg (c := K p = 43) (by omega), if_neg (c := K p = 40) (by omega), if_pos (c := K p = 41) e, mj_reachD_98]
      repeat' first
        | with_reducible exact q_none
        | with_reducible exact q_ok (by assumption)
        | with_reducible exact q_okd (by assumption) (by omega)
        | with_reducible exact q_fl (by assumption)
        | with_reducible exact q_fl' (by assumption) (by assumption)
        | with_reducible exact q_okp (by assumption) (by omega) (PR_a (by assumption))
        | with_reducible refine q_goal' (by assumption) (by first | exact nlo_ _ | exact nsb1_ (by omega) | exact nI_1 _ | exact n8_ _ | rfl | exact PR_a (by assumption) | exact PR_o (by assumption) | exact PR_d4 (by assumption) | assumption) (by first | exact nlo_ _ | exact nsb1_ (by omega) | exact nI_1 _ | exact n8_ _ | rfl | exact PR_a (by assumption) | exact PR_o (by assumption) | exact PR_d4 (by assumption) | assumption) (by first | exact nlo_ _ | exact nsb1_ (by omega) | exact nI_1 _ | exact n8_ _ | rfl | exact PR_a (by assumption) | exact PR_o (by assumption) | exact PR_d4 (by assumption) | assumption) (by first | exact nlo_ _ | exact nsb1_ (by omega) | exact nI_1 _ | exact n8_ _ | rfl | exact PR_a (by assumption) | exact PR_o (by assumption) | exact PR_d4 (by assumption) | assumption) (by first | omega | (simp only [List.length_cons]; omega)) ⟨by first | decide | omega, by first | decide | omega, by first | decide | omega, by first | decide | omega⟩ (fun s1 h1 => ?_)
        | with_reducible refine q_goalp (by assumption) (PR_a (by assumption)) (by omega) (by first | exact nlo_ _ | exact nsb1_ (by omega) | exact nI_1 _ | exact n8_ _ | rfl | exact PR_a (by assumption) | exact PR_o (by assumption) | exact PR_d4 (by assumption) | assumption) (by first | exact nlo_ _ | exact nsb1_ (by omega) | exact nI_1 _ | exact n8_ _ | rfl | exact PR_a (by assumption) | exact PR_o (by assumption) | exact PR_d4 (by assumption) | assumption) (by first | exact nlo_ _ | exact nsb1_ (by omega) | exact nI_1 _ | exact n8_ _ | rfl | exact PR_a (by assumption) | exact PR_o (by assumption) | exact PR_d4 (by assumption) | assumption) (by first | exact nlo_ _ | exact nsb1_ (by omega) | exact nI_1 _ | exact n8_ _ | rfl | exact PR_a (by assumption) | exact PR_o (by assumption) | exact PR_d4 (by assumption) | assumption) (by first | omega | (simp only [List.length_cons]; omega)) ⟨by first | decide | omega, by first | decide | omega, by first | decide | omega, by first | decide | omega⟩ (fun s1 h1 => ?_)
        | with_reducible refine q_tk (by assumption) ?_
        | with_reducible refine q_tkp (by assumption) (PR_a (by assumption)) (by omega) (fun s1 h1 => ?_)
        | with_reducible refine q_takeq (by assumption) (by first | exact nlo_ _ | rfl) (by first | decide | omega) (by first | decide | omega) (fun hk1 s1 h1 => ?_) ?_
        | with_reducible refine q_take' (by assumption) (by first | exact nlo_ _ | rfl) (by first | decide | omega) (by first | decide | omega) (fun hk1 s1 h1 => ?_) (fun hk0 => ?_)
        | with_reducible refine q_takep (by assumption) (PR_a (by assumption)) (by omega) (by first | exact nlo_ _ | rfl) (by first | decide | omega) (by first | decide | omega) (fun hk1 s1 h1 => ?_) (fun hk0 s1 h1 => ?_)
        | with_reducible refine q_openp (by assumption) (PR_a (by assumption)) (by omega) (by omega) (by omega) (fun s1 h1 => ?_) (fun hk1 hd1 s1 h1 => ?_)
        | with_reducible refine q_deep (by assumption) (fun hd0 => ?_) (fun hd1 s1 h1 => ?_) (by omega)
        | with_reducible refine q_openq (by assumption) (by omega) (by omega) ?_ (fun hk1 hd1 s1 h1 => ?_)
        | with_reducible refine q_shutS (by assumption) (by omega) (fun s1 e1 t1 => ?_) (fun s1 p1 d1 sc1 h1 hp1 => ?_)
        | with_reducible refine q_shut' (by assumption) (by first | exact nlo_ _ | exact nsb1_ (by omega) | exact nI_1 _ | exact n8_ _ | rfl | exact PR_a (by assumption) | exact PR_o (by assumption) | exact PR_d4 (by assumption) | assumption) (by first | exact nlo_ _ | exact nsb1_ (by omega) | exact nI_1 _ | exact n8_ _ | rfl | exact PR_a (by assumption) | exact PR_o (by assumption) | exact PR_d4 (by assumption) | assumption) (by first | exact nlo_ _ | exact nsb1_ (by omega) | exact nI_1 _ | exact n8_ _ | rfl | exact PR_a (by assumption) | exact PR_o (by assumption) | exact PR_d4 (by assumption) | assumption) (by first | exact nlo_ _ | exact nsb1_ (by omega) | exact nI_1 _ | exact n8_ _ | rfl | exact PR_a (by assumption) | exact PR_o (by assumption) | exact PR_d4 (by assumption) | assumption) (by omega) (by first | decide | omega) (by first | decide | omega) (fun hb1 s1 h1 _ => ?_)
        | with_reducible refine q_leaf' (by assumption) (by first | exact nlo_ _ | exact nsb1_ (by omega) | exact nI_1 _ | exact n8_ _ | rfl | exact PR_a (by assumption) | exact PR_o (by assumption) | exact PR_d4 (by assumption) | assumption) (by first | exact nlo_ _ | exact nsb1_ (by omega) | exact nI_1 _ | exact n8_ _ | rfl | exact PR_a (by assumption) | exact PR_o (by assumption) | exact PR_d4 (by assumption) | assumption) rfl (by omega) (by decide) (by first | decide | omega) (fun s1 h1 => ?_)
        | with_reducible refine q_leafp (by assumption) (PR_a (by assumption)) (by omega) (by first | exact nlo_ _ | exact nsb1_ (by omega) | exact nI_1 _ | exact n8_ _ | rfl | exact PR_a (by assumption) | exact PR_o (by assumption) | exact PR_d4 (by assumption) | assumption) (by first | exact nlo_ _ | exact nsb1_ (by omega) | exact nI_1 _ | exact n8_ _ | rfl | exact PR_a (by assumption) | exact PR_o (by assumption) | exact PR_d4 (by assumption) | assumption) rfl (by omega) (by decide) (by first | decide | omega) (fun s1 h1 => ?_)
        | with_reducible refine q_labels' (by assumption) (by omega) (by omega) (fun s1 os1 p1 n1 el1 h1 => ?_)
        | with_reducible refine q_tqy (by assumption) ?_
        | with_reducible refine q_tqn (by assumption) ?_
        | with_reducible refine q_30 (by assumption) (by omega) (fun s1 h1 => ?_)
        | with_reducible refine q_ite (fun hk1 => ?_) (fun hk0 => ?_)
        | contradiction
        | with_reducible exact absurd (And.intro (by assumption) (by assumption)) (by assumption)
        | (exfalso; omega)
        | simp only [fun q => nk q 43 (by decide), gpT, List.cons_append, List.nil_append, show (0 : Int32) &&& 1 = 0 from rfl, show (1 : Int32) &&& 1 = 1 from rfl, show ¬ ((1 : Int32) = 0) by decide, show ¬ ((0 : Int32) = 1) by decide, if_true, if_false, eq_self_iff_true]
        | split
    · rw [show 10 + K p = 52 by omega, if_neg (c := K p = 43) (by omega)]
      simp only [fun q => nk q 43 (by decide), fun q => nk q 40 (by decide), fun q => nk q 41 (by decide)]
      rw [if_neg (c := K p = 43) (by omega), if_neg (c := K p = 40) (by omega), if_neg (c := K p = 41) (by omega), mj_reachD_98]
      repeat' first
        | with_reducible exact q_none
        | with_reducible exact q_ok (by assumption)
        | with_reducible exact q_okd (by assumption) (by omega)
        | with_reducible exact q_fl (by assumption)
        | with_reducible exact q_fl' (by assumption) (by assumption)
        | with_reducible exact q_okp (by assumption) (by omega) (PR_a (by assumption))
        | with_reducible refine q_goal' (by assumption) (by first | exact nlo_ _ | exact nsb1_ (by omega) | exact nI_1 _ | exact n8_ _ | rfl | exact PR_a (by assumption) | exact PR_o (by assumption) | exact PR_d4 (by assumption) | assumption) (by first | exact nlo_ _ | exact nsb1_ (by omega) | exact nI_1 _ | exact n8_ _ | rfl | exact PR_a (by assumption) | exact PR_o (by assumption) | exact PR_d4 (by assumption) | assumption) (by first | exact nlo_ _ | exact nsb1_ (by omega) | exact nI_1 _ | exact n8_ _ | rfl | exact PR_a (by assumption) | exact PR_o (by assumption) | exact PR_d4 (by assumption) | assumption) (by first | exact nlo_ _ | exact nsb1_ (by omega) | exact nI_1 _ | exact n8_ _ | rfl | exact PR_a (by assumption) | exact PR_o (by assumption) | exact PR_d4 (by assumption) | assumption) (by first | omega | (simp only [List.length_cons]; omega)) ⟨by first | decide | omega, by first | decide | omega, by first | decide | omega, by first | decide | omega⟩ (fun s1 h1 => ?_)
        | with_reducible refine q_goalp (by assumption) (PR_a (by assumption)) (by omega) (by first | exact nlo_ _ | exact nsb1_ (by omega) | exact nI_1 _ | exact n8_ _ | rfl | exact PR_a (by assumption) | exact PR_o (by assumption) | exact PR_d4 (by assumption) | assumption) (by first | exact nlo_ _ | exact nsb1_ (by omega) | exact nI_1 _ | exact n8_ _ | rfl | exact PR_a (by assumption) | exact PR_o (by assumption) | exact PR_d4 (by assumption) | assumption) (by first | exact nlo_ _ | exact nsb1_ (by omega) | exact nI_1 _ | exact n8_ _ | rfl | exact PR_a (by assumption) | exact PR_o (by assumption) | exact PR_d4 (by assumption) | assumption) (by first | exact nlo_ _ | exact nsb1_ (by omega) | exact nI_1 _ | exact n8_ _ | rfl | exact PR_a (by assumption) | exact PR_o (by assumption) | exact PR_d4 (by assumption) | assumption) (by first | omega | (simp only [List.length_cons]; omega)) ⟨by first | decide | omega, by first | decide | omega, by first | decide | omega, by first | decide | omega⟩ (fun s1 h1 => ?_)
        | with_reducible refine q_tk (by assumption) ?_
        | with_reducible refine q_tkp (by assumption) (PR_a (by assumption)) (by omega) (fun s1 h1 => ?_)
        | with_reducible refine q_takeq (by assumption) (by first | exact nlo_ _ | rfl) (by first | decide | omega) (by first | decide | omega) (fun hk1 s1 h1 => ?_) ?_
        | with_reducible refine q_take' (by assumption) (by first | exact nlo_ _ | rfl) (by first | decide | omega) (by first | decide | omega) (fun hk1 s1 h1 => ?_) (fun hk0 => ?_)
        | with_reducible refine q_takep (by assumption) (PR_a (by assumption)) (by omega) (by first | exact nlo_ _ | rfl) (by first | decide | omega) (by first | decide | omega) (fun hk1 s1 h1 => ?_) (fun hk0 s1 h1 => ?_)
        | with_reducible refine q_openp (by assumption) (PR_a (by assumption)) (by omega) (by omega) (by omega) (fun s1 h1 => ?_) (fun hk1 hd1 s1 h1 => ?_)
        | with_reducible refine q_deep (by assumption) (fun hd0 => ?_) (fun hd1 s1 h1 => ?_) (by omega)
        | with_reducible refine q_openq (by assumption) (by omega) (by omega) ?_ (fun hk1 hd1 s1 h1 => ?_)
        | with_reducible refine q_shutS (by assumption) (by omega) (fun s1 e1 t1 => ?_) (fun s1 p1 d1 sc1 h1 hp1 => ?_)
        | with_reducible refine q_shut' (by assumption) (by first | exact nlo_ _ | exact nsb1_ (by omega) | exact nI_1 _ | exact n8_ _ | rfl | exact PR_a (by assumption) | exact PR_o (by assumption) | exact PR_d4 (by assumption) | assumption) (by first | exact nlo_ _ | exact nsb1_ (by omega) | exact nI_1 _ | exact n8_ _ | rfl | exact PR_a (by assumption) | exact PR_o (by assumption) | exact PR_d4 (by assumption) | assumption) (by first | exact nlo_ _ | exact nsb1_ (by omega) | exact nI_1 _ | exact n8_ _ | rfl | exact PR_a (by assumption) | exact PR_o (by assumption) | exact PR_d4 (by assumption) | assumption) (by first | exact nlo_ _ | exact nsb1_ (by omega) | exact nI_1 _ | exact n8_ _ | rfl | exact PR_a (by assumption) | exact PR_o (by assumption) | exact PR_d4 (by assumption) | assumption) (by omega) (by first | decide | omega) (by first | decide | omega) (fun hb1 s1 h1 _ => ?_)
        | with_reducible refine q_leaf' (by assumption) (by first | exact nlo_ _ | exact nsb1_ (by omega) | exact nI_1 _ | exact n8_ _ | rfl | exact PR_a (by assumption) | exact PR_o (by assumption) | exact PR_d4 (by assumption) | assumption) (by first | exact nlo_ _ | exact nsb1_ (by omega) | exact nI_1 _ | exact n8_ _ | rfl | exact PR_a (by assumption) | exact PR_o (by assumption) | exact PR_d4 (by assumption) | assumption) rfl (by omega) (by decide) (by first | decide | omega) (fun s1 h1 => ?_)
        | with_reducible refine q_leafp (by assumption) (PR_a (by assumption)) (by omega) (by first | exact nlo_ _ | exact nsb1_ (by omega) | exact nI_1 _ | exact n8_ _ | rfl | exact PR_a (by assumption) | exact PR_o (by assumption) | exact PR_d4 (by assumption) | assumption) (by first | exact nlo_ _ | exact nsb1_ (by omega) | exact nI_1 _ | exact n8_ _ | rfl | exact PR_a (by assumption) | exact PR_o (by assumption) | exact PR_d4 (by assumption) | assumption) rfl (by omega) (by decide) (by first | decide | omega) (fun s1 h1 => ?_)
        | with_reducible refine q_labels' (by assumption) (by omega) (by omega) (fun s1 os1 p1 n1 el1 h1 => ?_)
        | with_reducible refine q_tqy (by assumption) ?_
        | with_reducible refine q_tqn (by assumption) ?_
        | with_reducible refine q_30 (by assumption) (by omega) (fun s1 h1 => ?_)
        | with_reducible refine q_ite (fun hk1 => ?_) (fun hk0 => ?_)
        | contradiction
        | with_reducible exact absurd (And.intro (by assumption) (by assumption)) (by assumption)
        | (exfalso; omega)
        | simp only [fun q => nk q 43 (by decide), gpT, List.cons_append, List.nil_append, show (0 : Int32) &&& 1 = 0 from rfl, show (1 : Int32) &&& 1 = 1 from rfl, show ¬ ((1 : Int32) = 0) by decide, show ¬ ((0 : Int32) = 1) by decide, if_true, if_false, eq_self_iff_true]
        | split
    · rw [if_pos (c := K p = 43) e, if_pos (by rw [e]; rfl)]
      repeat' first
        | with_reducible exact q_none
        | with_reducible exact q_ok (by assumption)
        | with_reducible exact q_okd (by assumption) (by omega)
        | with_reducible exact q_fl (by assumption)
        | with_reducible exact q_fl' (by assumption) (by assumption)
        | with_reducible exact q_okp (by assumption) (by omega) (PR_a (by assumption))
        | with_reducible refine q_goal' (by assumption) (by first | exact nlo_ _ | exact nsb1_ (by omega) | exact nI_1 _ | exact n8_ _ | rfl | exact PR_a (by assumption) | exact PR_o (by assumption) | exact PR_d4 (by assumption) | assumption) (by first | exact nlo_ _ | exact nsb1_ (by omega) | exact nI_1 _ | exact n8_ _ | rfl | exact PR_a (by assumption) | exact PR_o (by assumption) | exact PR_d4 (by assumption) | assumption) (by first | exact nlo_ _ | exact nsb1_ (by omega) | exact nI_1 _ | exact n8_ _ | rfl | exact PR_a (by assumption) | exact PR_o (by assumption) | exact PR_d4 (by assumption) | assumption) (by first | exact nlo_ _ | exact nsb1_ (by omega) | exact nI_1 _ | exact n8_ _ | rfl | exact PR_a (by assumption) | exact PR_o (by assumption) | exact PR_d4 (by assumption) | assumption) (by first | omega | (simp only [List.length_cons]; omega)) ⟨by first | decide | omega, by first | decide | omega, by first | decide | omega, by first | decide | omega⟩ (fun s1 h1 => ?_)
        | with_reducible refine q_goalp (by assumption) (PR_a (by assumption)) (by omega) (by first | exact nlo_ _ | exact nsb1_ (by omega) | exact nI_1 _ | exact n8_ _ | rfl | exact PR_a (by assumption) | exact PR_o (by assumption) | exact PR_d4 (by assumption) | assumption) (by first | exact nlo_ _ | exact nsb1_ (by omega) | exact nI_1 _ | exact n8_ _ | rfl | exact PR_a (by assumption) | exact PR_o (by assumption) | exact PR_d4 (by assumption) | assumption) (by first | exact nlo_ _ | exact nsb1_ (by omega) | exact nI_1 _ | exact n8_ _ | rfl | exact PR_a (by assumption) | exact PR_o (by assumption) | exact PR_d4 (by assumption) | assumption) (by first | exact nlo_ _ | exact nsb1_ (by omega) | exact nI_1 _ | exact n8_ _ | rfl | exact PR_a (by assumption) | exact PR_o (by assumption) | exact PR_d4 (by assumption) | assumption) (by first | omega | (simp only [List.length_cons]; omega)) ⟨by first | decide | omega, by first | decide | omega, by first | decide | omega, by first | decide | omega⟩ (fun s1 h1 => ?_)
        | with_reducible refine q_tk (by assumption) ?_
        | with_reducible refine q_tkp (by assumption) (PR_a (by assumption)) (by omega) (fun s1 h1 => ?_)
        | with_reducible refine q_takeq (by assumption) (by first | exact nlo_ _ | rfl) (by first | decide | omega) (by first | decide | omega) (fun hk1 s1 h1 => ?_) ?_
        | with_reducible refine q_take' (by assumption) (by first | exact nlo_ _ | rfl) (by first | decide | omega) (by first | decide | omega) (fun hk1 s1 h1 => ?_) (fun hk0 => ?_)
        | with_reducible refine q_takep (by assumption) (PR_a (by assumption)) (by omega) (by first | exact nlo_ _ | rfl) (by first | decide | omega) (by first | decide | omega) (fun hk1 s1 h1 => ?_) (fun hk0 s1 h1 => ?_)
        | with_reducible refine q_openp (by assumption) (PR_a (by assumption)) (by omega) (by omega) (by omega) (fun s1 h1 => ?_) (fun hk1 hd1 s1 h1 => ?_)
        | with_reducible refine q_deep (by assumption) (fun hd0 => ?_) (fun hd1 s1 h1 => ?_) (by omega)
        | with_reducible refine q_openq (by assumption) (by omega) (by omega) ?_ (fun hk1 hd1 s1 h1 => ?_)
        | with_reducible refine q_shutS (by assumption) (by omega) (fun s1 e1 t1 => ?_) (fun s1 p1 d1 sc1 h1 hp1 => ?_)
        | with_reducible refine q_shut' (by assumption) (by first | exact nlo_ _ | exact nsb1_ (by omega) | exact nI_1 _ | exact n8_ _ | rfl | exact PR_a (by assumption) | exact PR_o (by assumption) | exact PR_d4 (by assumption) | assumption) (by first | exact nlo_ _ | exact nsb1_ (by omega) | exact nI_1 _ | exact n8_ _ | rfl | exact PR_a (by assumption) | exact PR_o (by assumption) | exact PR_d4 (by assumption) | assumption) (by first | exact nlo_ _ | exact nsb1_ (by omega) | exact nI_1 _ | exact n8_ _ | rfl | exact PR_a (by assumption) | exact PR_o (by assumption) | exact PR_d4 (by assumption) | assumption) (by first | exact nlo_ _ | exact nsb1_ (by omega) | exact nI_1 _ | exact n8_ _ | rfl | exact PR_a (by assumption) | exact PR_o (by assumption) | exact PR_d4 (by assumption) | assumption) (by omega) (by first | decide | omega) (by first | decide | omega) (fun hb1 s1 h1 _ => ?_)
        | with_reducible refine q_leaf' (by assumption) (by first | exact nlo_ _ | exact nsb1_ (by omega) | exact nI_1 _ | exact n8_ _ | rfl | exact PR_a (by assumption) | exact PR_o (by assumption) | exact PR_d4 (by assumption) | assumption) (by first | exact nlo_ _ | exact nsb1_ (by omega) | exact nI_1 _ | exact n8_ _ | rfl | exact PR_a (by assumption) | exact PR_o (by assumption) | exact PR_d4 (by assumption) | assumption) rfl (by omega) (by decide) (by first | decide | omega) (fun s1 h1 => ?_)
        | with_reducible refine q_leafp (by assumption) (PR_a (by assumption)) (by omega) (by first | exact nlo_ _ | exact nsb1_ (by omega) | exact nI_1 _ | exact n8_ _ | rfl | exact PR_a (by assumption) | exact PR_o (by assumption) | exact PR_d4 (by assumption) | assumption) (by first | exact nlo_ _ | exact nsb1_ (by omega) | exact nI_1 _ | exact n8_ _ | rfl | exact PR_a (by assumption) | exact PR_o (by assumption) | exact PR_d4 (by assumption) | assumption) rfl (by omega) (by decide) (by first | decide | omega) (fun s1 h1 => ?_)
        | with_reducible refine q_labels' (by assumption) (by omega) (by omega) (fun s1 os1 p1 n1 el1 h1 => ?_)
        | with_reducible refine q_tqy (by assumption) ?_
        | with_reducible refine q_tqn (by assumption) ?_
        | with_reducible refine q_30 (by assumption) (by omega) (fun s1 h1 => ?_)
        | with_reducible refine q_ite (fun hk1 => ?_) (fun hk0 => ?_)
        | contradiction
        | with_reducible exact absurd (And.intro (by assumption) (by assumption)) (by assumption)
        | (exfalso; omega)
        | simp only [fun q => nk q 43 (by decide), gpT, List.cons_append, List.nil_append, show (0 : Int32) &&& 1 = 0 from rfl, show (1 : Int32) &&& 1 = 1 from rfl, show ¬ ((1 : Int32) = 0) by decide, show ¬ ((0 : Int32) = 1) by decide, if_true, if_false, eq_self_iff_true]
        | split
  · rw [if_neg hi, if_pos (c := isD_ (K p) = false) (by simpa using hi)]
    exact q_fl h
set_option maxRecDepth 8000 in
set_option maxHeartbeats 1000000 in
theorem g_4 (d x y z : Nat) (h : PR K V N lx s (gs, os, p, dp, sc, n)) (hg : gs.length + 10 ≤ 9000) (hs : sc.length < 70) (hp : p ≤ N) (hn : n + (N - p) + 10 ≤ 26000) (hd : dp ≤ 60) (hx : x < 2 ^ 26) (hy : y < 2 ^ 26) (hz : z < 2 ^ 26) : pq_ K V N lx (pg_4 K V N lx x y z (gs, os, p, dp, sc, n)) (mE (d + 8) 34 [vr_ (some 0), vi_ (nI 4), vi_ (nI x), vi_ (nI y), vi_ (nI z)] s) := by
  have t2 := h.1.2.1
  have nk : ∀ q c, c < 2 ^ 31 → (nI (K q) = (OfNat.ofNat c : Int32)) = (K q = c) := fun q c hc => neq1_ c (PT_k h.1 q) hc
  have nx : ∀ c, c < 2 ^ 31 → (nI x = (OfNat.ofNat c : Int32)) = (x = c) := fun c hc => neq1_ c (by omega) hc
  have hol := PO_len h.2.2.2.2.2
  rw [me_reachD]
  refine q_tk h ?_
  rw [if_neg (by decide), if_pos (by decide)]
  dsimp only [pg_4]
  repeat' first
    | with_reducible exact q_none
    | with_reducible exact q_ok (by assumption)
    | with_reducible exact q_okd (by assumption) (by omega)
    | with_reducible exact q_fl (by assumption)
    | with_reducible exact q_fl' (by assumption) (by assumption)
    | with_reducible exact q_okp (by assumption) (by omega) (PR_a (by assumption))
    | with_reducible refine q_goal' (by assumption) (by first | exact nlo_ _ | exact nsb1_ (by omega) | exact nI_1 _ | exact n8_ _ | rfl | exact PR_a (by assumption) | exact PR_o (by assumption) | exact PR_d4 (by assumption) | assumption) (by first | exact nlo_ _ | exact nsb1_ (by omega) | exact nI_1 _ | exact n8_ _ | rfl | exact PR_a (by assumption) | exact PR_o (by assumption) | exact PR_d4 (by assumption) | assumption) (by first | exact nlo_ _ | exact nsb1_ (by omega) | exact nI_1 _ | exact n8_ _ | rfl | exact PR_a (by assumption) | exact PR_o (by assumption) | exact PR_d4 (by assumption) | assumption) (by first | exact nlo_ _ | exact nsb1_ (by omega) | exact nI_1 _ | exact n8_ _ | rfl | exact PR_a (by assumption) | exact PR_o (by assumption) | exact PR_d4 (by assumption) | assumption) (by first | omega | (simp only [List.length_cons]; omega)) ⟨by first | decide | omega, by first | decide | omega, by first | decide | omega, by first | decide | omega⟩ (fun s1 h1 => ?_)
    | with_reducible refine q_goalp (by assumption) (PR_a (by assumption)) (by omega) (by first | exact nlo_ _ | exact nsb1_ (by omega) | exact nI_1 _ | exact n8_ _ | rfl | exact PR_a (by assumption) | exact PR_o (by assumption) | exact PR_d4 (by assumption) | assumption) (by first | exact nlo_ _ | exact nsb1_ (by omega) | exact nI_1 _ | exact n8_ _ | rfl | exact PR_a (by assumption) | exact PR_o (by assumption) | exact PR_d4 (by assumption) | assumption) (by first | exact nlo_ _ | exact nsb1_ (by omega) | exact nI_1 _ | exact n8_ _ | rfl | exact PR_a (by assumption) | exact PR_o (by assumption) | exact PR_d4 (by assumption) | assumption) (by first | exact nlo_ _ | exact nsb1_ (by omega) | exact nI_1 _ | exact n8_ _ | rfl | exact PR_a (by assumption) | exact PR_o (by assumption) | exact PR_d4 (by assumption) | assumption) (by first | omega | (simp only [List.length_cons]; omega)) ⟨by first | decide | omega, by first | decide | omega, by first | decide | omega, by first | decide | omega⟩ (fun s1 h1 => ?_)
    | with_reducible refine q_tk (by assumption) ?_
    | with_reducible refine q_tkp (by assumption) (PR_a (by assumption)) (by omega) (fun s1 h1 => ?_)
    | with_reducible refine q_takeq (by assumption) (by first | exact nlo_ _ | rfl) (by first | decide | omega) (by first | decide | omega) (fun hk1 s1 h1 => ?_) ?_
    | with_reducible refine q_take' (by assumption) (by first | exact nlo_ _ | rfl) (by first | decide | omega) (by first | decide | omega) (fun hk1 s1 h1 => ?_) (fun hk0 => ?_)
    | with_reducible refine q_takep (by assumption) (PR_a (by assumption)) (by omega) (by first | exact nlo_ _ | rfl) (by first | decide | omega) (by first | decide | omega) (fun hk1 s1 h1 => ?_) (fun hk0 s1 h1 => ?_)
    | with_reducible refine q_openp (by assumption) (PR_a (by assumption)) (by omega) (by omega) (by omega) (fun s1 h1 => ?_) (fun hk1 hd1 s1 h1 => ?_)
    | with_reducible refine q_deep (by assumption) (fun hd0 => ?_) (fun hd1 s1 h1 => ?_) (by omega)
    | with_reducible refine q_openq (by assumption) (by omega) (by omega) ?_ (fun hk1 hd1 s1 h1 => ?_)
    | with_reducible refine q_shutS (by assumption) (by omega) (fun s1 e1 t1 => ?_) (fun s1 p1 d1 sc1 h1 hp1 => ?_)
    | with_reducible refine q_shut' (by assumption) (by first | exact nlo_ _ | exact nsb1_ (by omega) | exact nI_1 _ | exact n8_ _ | rfl | exact PR_a (by assumption) | exact PR_o (by assumption) | exact PR_d4 (by assumption) | assumption) (by first | exact nlo_ _ | exact nsb1_ (by omega) | exact nI_1 _ | exact n8_ _ | rfl | exact PR_a (by assumption) | exact PR_o (by assumption) | exact PR_d4 (by assumption) | assumption) (by first | exact nlo_ _ | exact nsb1_ (by omega) | exact nI_1 _ | exact n8_ _ | rfl | exact PR_a (by assumption) | exact PR_o (by assumption) | exact PR_d4 (by assumption) | assumption) (by first | exact nlo_ _ | exact nsb1_ (by omega) | exact nI_1 _ | exact n8_ _ | rfl | exact PR_a (by assumption) | exact PR_o (by assumption) | exact PR_d4 (by assumption) | assumption) (by omega) (by first | decide | omega) (by first | decide | omega) (fun hb1 s1 h1 _ => ?_)
    | with_reducible refine q_leaf' (by assumption) (by first | exact nlo_ _ | exact nsb1_ (by omega) | exact nI_1 _ | exact n8_ _ | rfl | exact PR_a (by assumption) | exact PR_o (by assumption) | exact PR_d4 (by assumption) | assumption) (by first | exact nlo_ _ | exact nsb1_ (by omega) | exact nI_1 _ | exact n8_ _ | rfl | exact PR_a (by assumption) | exact PR_o (by assumption) | exact PR_d4 (by assumption) | assumption) rfl (by omega) (by decide) (by first | decide | omega) (fun s1 h1 => ?_)
    | with_reducible refine q_leafp (by assumption) (PR_a (by assumption)) (by omega) (by first | exact nlo_ _ | exact nsb1_ (by omega) | exact nI_1 _ | exact n8_ _ | rfl | exact PR_a (by assumption) | exact PR_o (by assumption) | exact PR_d4 (by assumption) | assumption) (by first | exact nlo_ _ | exact nsb1_ (by omega) | exact nI_1 _ | exact n8_ _ | rfl | exact PR_a (by assumption) | exact PR_o (by assumption) | exact PR_d4 (by assumption) | assumption) rfl (by omega) (by decide) (by first | decide | omega) (fun s1 h1 => ?_)
    | with_reducible refine q_labels' (by assumption) (by omega) (by omega) (fun s1 os1 p1 n1 el1 h1 => ?_)
    | with_reducible refine q_tqy (by assumption) ?_
    | with_reducible refine q_tqn (by assumption) ?_
    | with_reducible refine q_30 (by assumption) (by omega) (fun s1 h1 => ?_)
    | with_reducible refine q_ite (fun hk1 => ?_) (fun hk0 => ?_)
    | contradiction
    | with_reducible exact absurd (And.intro (by assumption) (by assumption)) (by assumption)
    | (exfalso; omega)
    | simp only [nx 50 (by decide), gpT, List.cons_append, List.nil_append, show (0 : Int32) &&& 1 = 0 from rfl, show (1 : Int32) &&& 1 = 1 from rfl, show ¬ ((1 : Int32) = 0) by decide, show ¬ ((0 : Int32) = 1) by decide, if_true, if_false, eq_self_iff_true]
    | split
set_option maxRecDepth 8000 in
set_option maxHeartbeats 1000000 in
theorem g_5 (d x y z : Nat) (h : PR K V N lx s (gs, os, p, dp, sc, n)) (hg : gs.length + 10 ≤ 9000) (hs : sc.length < 70) (hp : p ≤ N) (hn : n + (N - p) + 10 ≤ 26000) (hd : dp ≤ 60) (hx : x < 2 ^ 26) (hy : y < 2 ^ 26) (hz : z < 2 ^ 26) : pq_ K V N lx (pg_5 K V N lx x y z (gs, os, p, dp, sc, n)) (mE (d + 8) 34 [vr_ (some 0), vi_ (nI 5), vi_ (nI x), vi_ (nI y), vi_ (nI z)] s) := by
  have t2 := h.1.2.1
  have nk : ∀ q c, c < 2 ^ 31 → (nI (K q) = (OfNat.ofNat c : Int32)) = (K q = c) := fun q c hc => neq1_ c (PT_k h.1 q) hc
  have nx : ∀ c, c < 2 ^ 31 → (nI x = (OfNat.ofNat c : Int32)) = (x = c) := fun c hc => neq1_ c (by omega) hc
  have hol := PO_len h.2.2.2.2.2
  rw [me_reachD]
  refine q_tk h ?_
  rw [if_neg (by decide), if_neg (by decide), if_pos (by decide)]
  dsimp only [pg_5]
  repeat' first
    | with_reducible exact q_none
    | with_reducible exact q_ok (by assumption)
    | with_reducible exact q_okd (by assumption) (by omega)
    | with_reducible exact q_fl (by assumption)
    | with_reducible exact q_fl' (by assumption) (by assumption)
    | with_reducible exact q_okp (by assumption) (by omega) (PR_a (by assumption))
    | with_reducible refine q_goal' (by assumption) (by first | exact nlo_ _ | exact nsb1_ (by omega) | exact nI_1 _ | exact n8_ _ | rfl | exact PR_a (by assumption) | exact PR_o (by assumption) | exact PR_d4 (by assumption) | assumption) (by first | exact nlo_ _ | exact nsb1_ (by omega) | exact nI_1 _ | exact n8_ _ | rfl | exact PR_a (by assumption) | exact PR_o (by assumption) | exact PR_d4 (by assumption) | assumption) (by first | exact nlo_ _ | exact nsb1_ (by omega) | exact nI_1 _ | exact n8_ _ | rfl | exact PR_a (by assumption) | exact PR_o (by assumption) | exact PR_d4 (by assumption) | assumption) (by first | exact nlo_ _ | exact nsb1_ (by omega) | exact nI_1 _ | exact n8_ _ | rfl | exact PR_a (by assumption) | exact PR_o (by assumption) | exact PR_d4 (by assumption) | assumption) (by first | omega | (simp only [List.length_cons]; omega)) ⟨by first | decide | omega, by first | decide | omega, by first | decide | omega, by first | decide | omega⟩ (fun s1 h1 => ?_)
    | with_reducible refine q_goalp (by assumption) (PR_a (by assumption)) (by omega) (by first | exact nlo_ _ | exact nsb1_ (by omega) | exact nI_1 _ | exact n8_ _ | rfl | exact PR_a (by assumption) | exact PR_o (by assumption) | exact PR_d4 (by assumption) | assumption) (by first | exact nlo_ _ | exact nsb1_ (by omega) | exact nI_1 _ | exact n8_ _ | rfl | exact PR_a (by assumption) | exact PR_o (by assumption) | exact PR_d4 (by assumption) | assumption) (by first | exact nlo_ _ | exact nsb1_ (by omega) | exact nI_1 _ | exact n8_ _ | rfl | exact PR_a (by assumption) | exact PR_o (by assumption) | exact PR_d4 (by assumption) | assumption) (by first | exact nlo_ _ | exact nsb1_ (by omega) | exact nI_1 _ | exact n8_ _ | rfl | exact PR_a (by assumption) | exact PR_o (by assumption) | exact PR_d4 (by assumption) | assumption) (by first | omega | (simp only [List.length_cons]; omega)) ⟨by first | decide | omega, by first | decide | omega, by first | decide | omega, by first | decide | omega⟩ (fun s1 h1 => ?_)
    | with_reducible refine q_tk (by assumption) ?_
    | with_reducible refine q_tkp (by assumption) (PR_a (by assumption)) (by omega) (fun s1 h1 => ?_)
    | with_reducible refine q_takeq (by assumption) (by first | exact nlo_ _ | rfl) (by first | decide | omega) (by first | decide | omega) (fun hk1 s1 h1 => ?_) ?_
    | with_reducible refine q_take' (by assumption) (by first | exact nlo_ _ | rfl) (by first | decide | omega) (by first | decide | omega) (fun hk1 s1 h1 => ?_) (fun hk0 => ?_)
    | with_reducible refine q_takep (by assumption) (PR_a (by assumption)) (by omega) (by first | exact nlo_ _ | rfl) (by first | decide | omega) (by first | decide | omega) (fun hk1 s1 h1 => ?_) (fun hk0 s1 h1 => ?_)
    | with_reducible refine q_openp (by assumption) (PR_a (by assumption)) (by omega) (by omega) (by omega) (fun s1 h1 => ?_) (fun hk1 hd1 s1 h1 => ?_)
    | with_reducible refine q_deep (by assumption) (fun hd0 => ?_) (fun hd1 s1 h1 => ?_) (by omega)
    | with_reducible refine q_openq (by assumption) (by omega) (by omega) ?_ (fun hk1 hd1 s1 h1 => ?_)
    | with_reducible refine q_shutS (by assumption) (by omega) (fun s1 e1 t1 => ?_) (fun s1 p1 d1 sc1 h1 hp1 => ?_)
    | with_reducible refine q_shut' (by assumption) (by first | exact nlo_ _ | exact nsb1_ (by omega) | exact nI_1 _ | exact n8_ _ | rfl | exact PR_a (by assumption) | exact PR_o (by assumption) | exact PR_d4 (by assumption) | assumption) (by first | exact nlo_ _ | exact nsb1_ (by omega) | exact nI_1 _ | exact n8_ _ | rfl | exact PR_a (by assumption) | exact PR_o (by assumption) | exact PR_d4 (by assumption) | assumption) (by first | exact nlo_ _ | exact nsb1_ (by omega) | exact nI_1 _ | exact n8_ _ | rfl | exact PR_a (by assumption) | exact PR_o (by assumption) | exact PR_d4 (by assumption) | assumption) (by first | exact nlo_ _ | exact nsb1_ (by omega) | exact nI_1 _ | exact n8_ _ | rfl | exact PR_a (by assumption) | exact PR_o (by assumption) | exact PR_d4 (by assumption) | assumption) (by omega) (by first | decide | omega) (by first | decide | omega) (fun hb1 s1 h1 _ => ?_)
    | with_reducible refine q_leaf' (by assumption) (by first | exact nlo_ _ | exact nsb1_ (by omega) | exact nI_1 _ | exact n8_ _ | rfl | exact PR_a (by assumption) | exact PR_o (by assumption) | exact PR_d4 (by assumption) | assumption) (by first | exact nlo_ _ | exact nsb1_ (by omega) | exact nI_1 _ | exact n8_ _ | rfl | exact PR_a (by assumption) | exact PR_o (by assumption) | exact PR_d4 (by assumption) | assumption) rfl (by omega) (by decide) (by first | decide | omega) (fun s1 h1 => ?_)
    | with_reducible refine q_leafp (by assumption) (PR_a (by assumption)) (by omega) (by first | exact nlo_ _ | exact nsb1_ (by omega) | exact nI_1 _ | exact n8_ _ | rfl | exact PR_a (by assumption) | exact PR_o (by assumption) | exact PR_d4 (by assumption) | assumption) (by first | exact nlo_ _ | exact nsb1_ (by omega) | exact nI_1 _ | exact n8_ _ | rfl | exact PR_a (by assumption) | exact PR_o (by assumption) | exact PR_d4 (by assumption) | assumption) rfl (by omega) (by decide) (by first | decide | omega) (fun s1 h1 => ?_)
    | with_reducible refine q_labels' (by assumption) (by omega) (by omega) (fun s1 os1 p1 n1 el1 h1 => ?_)
    | with_reducible refine q_tqy (by assumption) ?_
    | with_reducible refine q_tqn (by assumption) ?_
    | with_reducible refine q_30 (by assumption) (by omega) (fun s1 h1 => ?_)
    | with_reducible refine q_ite (fun hk1 => ?_) (fun hk0 => ?_)
    | contradiction
    | with_reducible exact absurd (And.intro (by assumption) (by assumption)) (by assumption)
    | (exfalso; omega)
    | simp only [fun q => nk q 15 (by decide), nx 20 (by decide), gpT, List.cons_append, List.nil_append, show (0 : Int32) &&& 1 = 0 from rfl, show (1 : Int32) &&& 1 = 1 from rfl, show ¬ ((1 : Int32) = 0) by decide, show ¬ ((0 : Int32) = 1) by decide, if_true, if_false, eq_self_iff_true]
    | split
set_option maxRecDepth 8000 in
set_option maxHeartbeats 1000000 in
theorem g_9 (d x y z : Nat) (h : PR K V N lx s (gs, os, p, dp, sc, n)) (hg : gs.length + 10 ≤ 9000) (hs : sc.length < 70) (hp : p ≤ N) (hn : n + (N - p) + 10 ≤ 26000) (hd : dp ≤ 60) (hx : x < 2 ^ 26) (hy : y < 2 ^ 26) (hz : z < 2 ^ 26) : pq_ K V N lx (pg_9 K V N lx x y z (gs, os, p, dp, sc, n)) (mE (d + 8) 34 [vr_ (some 0), vi_ (nI 9), vi_ (nI x), vi_ (nI y), vi_ (nI z)] s) := by
  have t2 := h.1.2.1
  have nk : ∀ q c, c < 2 ^ 31 → (nI (K q) = (OfNat.ofNat c : Int32)) = (K q = c) := fun q c hc => neq1_ c (PT_k h.1 q) hc
  have nx : ∀ c, c < 2 ^ 31 → (nI x = (OfNat.ofNat c : Int32)) = (x = c) := fun c hc => neq1_ c (by omega) hc
  have hol := PO_len h.2.2.2.2.2
  rw [me_reachD]
  refine q_tk h ?_
  rw [if_neg (by decide), if_neg (by decide), if_neg (by decide), if_neg (by decide), if_neg (by decide), if_pos (by decide)]
  dsimp only [pg_9]
  repeat' first
    | with_reducible exact q_none
    | with_reducible exact q_ok (by assumption)
    | with_reducible exact q_okd (by assumption) (by omega)
    | with_reducible exact q_fl (by assumption)
    | with_reducible exact q_fl' (by assumption) (by assumption)
    | with_reducible exact q_okp (by assumption) (by omega) (PR_a (by assumption))
    | with_reducible refine q_goal' (by assumption) (by first | exact nlo_ _ | exact nsb1_ (by omega) | exact nI_1 _ | exact n8_ _ | rfl | exact PR_a (by assumption) | exact PR_o (by assumption) | exact PR_d4 (by assumption) | assumption) (by first | exact nlo_ _ | exact nsb1_ (by omega) | exact nI_1 _ | exact n8_ _ | rfl | exact PR_a (by assumption) | exact PR_o (by assumption) | exact PR_d4 (by assumption) | assumption) (by first | exact nlo_ _ | exact nsb1_ (by omega) | exact nI_1 _ | exact n8_ _ | rfl | exact PR_a (by assumption) | exact PR_o (by assumption) | exact PR_d4 (by assumption) | assumption) (by first | exact nlo_ _ | exact nsb1_ (by omega) | exact nI_1 _ | exact n8_ _ | rfl | exact PR_a (by assumption) | exact PR_o (by assumption) | exact PR_d4 (by assumption) | assumption) (by first | omega | (simp only [List.length_cons]; omega)) ⟨by first | decide | omega, by first | decide | omega, by first | decide | omega, by first | decide | omega⟩ (fun s1 h1 => ?_)
    | with_reducible refine q_goalp (by assumption) (PR_a (by assumption)) (by omega) (by first | exact nlo_ _ | exact nsb1_ (by omega) | exact nI_1 _ | exact n8_ _ | rfl | exact PR_a (by assumption) | exact PR_o (by assumption) | exact PR_d4 (by assumption) | assumption) (by first | exact nlo_ _ | exact nsb1_ (by omega) | exact nI_1 _ | exact n8_ _ | rfl | exact PR_a (by assumption) | exact PR_o (by assumption) | exact PR_d4 (by assumption) | assumption) (by first | exact nlo_ _ | exact nsb1_ (by omega) | exact nI_1 _ | exact n8_ _ | rfl | exact PR_a (by assumption) | exact PR_o (by assumption) | exact PR_d4 (by assumption) | assumption) (by first | exact nlo_ _ | exact nsb1_ (by omega) | exact nI_1 _ | exact n8_ _ | rfl | exact PR_a (by assumption) | exact PR_o (by assumption) | exact PR_d4 (by assumption) | assumption) (by first | omega | (simp only [List.length_cons]; omega)) ⟨by first | decide | omega, by first | decide | omega, by first | decide | omega, by first | decide | omega⟩ (fun s1 h1 => ?_)
    | with_reducible refine q_tk (by assumption) ?_
    | with_reducible refine q_tkp (by assumption) (PR_a (by assumption)) (by omega) (fun s1 h1 => ?_)
    | with_reducible refine q_takeq (by assumption) (by first | exact nlo_ _ | rfl) (by first | decide | omega) (by first | decide | omega) (fun hk1 s1 h1 => ?_) ?_
    | with_reducible refine q_take' (by assumption) (by first | exact nlo_ _ | rfl) (by first | decide | omega) (by first | decide | omega) (fun hk1 s1 h1 => ?_) (fun hk0 => ?_)
    | with_reducible refine q_takep (by assumption) (PR_a (by assumption)) (by omega) (by first | exact nlo_ _ | rfl) (by first | decide | omega) (by first | decide | omega) (fun hk1 s1 h1 => ?_) (fun hk0 s1 h1 => ?_)
    | with_reducible refine q_openp (by assumption) (PR_a (by assumption)) (by omega) (by omega) (by omega) (fun s1 h1 => ?_) (fun hk1 hd1 s1 h1 => ?_)
    | with_reducible refine q_deep (by assumption) (fun hd0 => ?_) (fun hd1 s1 h1 => ?_) (by omega)
    | with_reducible refine q_openq (by assumption) (by omega) (by omega) ?_ (fun hk1 hd1 s1 h1 => ?_)
    | with_reducible refine q_shutS (by assumption) (by omega) (fun s1 e1 t1 => ?_) (fun s1 p1 d1 sc1 h1 hp1 => ?_)
    | with_reducible refine q_shut' (by assumption) (by first | exact nlo_ _ | exact nsb1_ (by omega) | exact nI_1 _ | exact n8_ _ | rfl | exact PR_a (by assumption) | exact PR_o (by assumption) | exact PR_d4 (by assumption) | assumption) (by first | exact nlo_ _ | exact nsb1_ (by omega) | exact nI_1 _ | exact n8_ _ | rfl | exact PR_a (by assumption) | exact PR_o (by assumption) | exact PR_d4 (by assumption) | assumption) (by first | exact nlo_ _ | exact nsb1_ (by omega) | exact nI_1 _ | exact n8_ _ | rfl | exact PR_a (by assumption) | exact PR_o (by assumption) | exact PR_d4 (by assumption) | assumption) (by first | exact nlo_ _ | exact nsb1_ (by omega) | exact nI_1 _ | exact n8_ _ | rfl | exact PR_a (by assumption) | exact PR_o (by assumption) | exact PR_d4 (by assumption) | assumption) (by omega) (by first | decide | omega) (by first | decide | omega) (fun hb1 s1 h1 _ => ?_)
    | with_reducible refine q_leaf' (by assumption) (by first | exact nlo_ _ | exact nsb1_ (by omega) | exact nI_1 _ | exact n8_ _ | rfl | exact PR_a (by assumption) | exact PR_o (by assumption) | exact PR_d4 (by assumption) | assumption) (by first | exact nlo_ _ | exact nsb1_ (by omega) | exact nI_1 _ | exact n8_ _ | rfl | exact PR_a (by assumption) | exact PR_o (by assumption) | exact PR_d4 (by assumption) | assumption) rfl (by omega) (by decide) (by first | decide | omega) (fun s1 h1 => ?_)
    | with_reducible refine q_leafp (by assumption) (PR_a (by assumption)) (by omega) (by first | exact nlo_ _ | exact nsb1_ (by omega) | exact nI_1 _ | exact n8_ _ | rfl | exact PR_a (by assumption) | exact PR_o (by assumption) | exact PR_d4 (by assumption) | assumption) (by first | exact nlo_ _ | exact nsb1_ (by omega) | exact nI_1 _ | exact n8_ _ | rfl | exact PR_a (by assumption) | exact PR_o (by assumption) | exact PR_d4 (by assumption) | assumption) rfl (by omega) (by decide) (by first | decide | omega) (fun s1 h1 => ?_)
    | with_reducible refine q_labels' (by assumption) (by omega) (by omega) (fun s1 os1 p1 n1 el1 h1 => ?_)
    | with_reducible refine q_tqy (by assumption) ?_
    | with_reducible refine q_tqn (by assumption) ?_
    | with_reducible refine q_30 (by assumption) (by omega) (fun s1 h1 => ?_)
    | with_reducible refine q_ite (fun hk1 => ?_) (fun hk0 => ?_)
    | contradiction
    | with_reducible exact absurd (And.intro (by assumption) (by assumption)) (by assumption)
    | (exfalso; omega)
    | simp only [fun q => nk q 46 (by decide), gpT, List.cons_append, List.nil_append, show (0 : Int32) &&& 1 = 0 from rfl, show (1 : Int32) &&& 1 = 1 from rfl, show ¬ ((1 : Int32) = 0) by decide, show ¬ ((0 : Int32) = 1) by decide, if_true, if_false, eq_self_iff_true]
    | split
set_option maxRecDepth 8000 in
set_option maxHeartbeats 1000000 in
theorem g_10 (d x y z : Nat) (h : PR K V N lx s (gs, os, p, dp, sc, n)) (hg : gs.length + 10 ≤ 9000) (hs : sc.length < 70) (hp : p ≤ N) (hn : n + (N - p) + 10 ≤ 26000) (hd : dp ≤ 60) (hx : x < 2 ^ 26) (hy : y < 2 ^ 26) (hz : z < 2 ^ 26) : pq_ K V N lx (pg_10 K V N lx x y z (gs, os, p, dp, sc, n)) (mE (d + 8) 34 [vr_ (some 0), vi_ (nI 10), vi_ (nI x), vi_ (nI y), vi_ (nI z)] s) := by
  have t2 := h.1.2.1
  have nk : ∀ q c, c < 2 ^ 31 → (nI (K q) = (OfNat.ofNat c : Int32)) = (K q = c) := fun q c hc => neq1_ c (PT_k h.1 q) hc
  have nx : ∀ c, c < 2 ^ 31 → (nI x = (OfNat.ofNat c : Int32)) = (x = c) := fun c hc => neq1_ c (by omega) hc
  have hol := PO_len h.2.2.2.2.2
  rw [me_reachD]
  refine q_tk h ?_
  rw [if_neg (by decide), if_neg (by decide), if_neg (by decide), if_neg (by decide), if_neg (by decide), if_neg (by decide)]
  dsimp only [pg_10]
  repeat' first
    | with_reducible exact q_none
    | with_reducible exact q_ok (by assumption)
    | with_reducible exact q_okd (by assumption) (by omega)
    | with_reducible exact q_fl (by assumption)
    | with_reducible exact q_fl' (by assumption) (by assumption)
    | with_reducible exact q_okp (by assumption) (by omega) (PR_a (by assumption))
    | with_reducible refine q_goal' (by assumption) (by first | exact nlo_ _ | exact nsb1_ (by omega) | exact nI_1 _ | exact n8_ _ | rfl | exact PR_a (by assumption) | exact PR_o (by assumption) | exact PR_d4 (by assumption) | assumption) (by first | exact nlo_ _ | exact nsb1_ (by omega) | exact nI_1 _ | exact n8_ _ | rfl | exact PR_a (by assumption) | exact PR_o (by assumption) | exact PR_d4 (by assumption) | assumption) (by first | exact nlo_ _ | exact nsb1_ (by omega) | exact nI_1 _ | exact n8_ _ | rfl | exact PR_a (by assumption) | exact PR_o (by assumption) | exact PR_d4 (by assumption) | assumption) (by first | exact nlo_ _ | exact nsb1_ (by omega) | exact nI_1 _ | exact n8_ _ | rfl | exact PR_a (by assumption) | exact PR_o (by assumption) | exact PR_d4 (by assumption) | assumption) (by first | omega | (simp only [List.length_cons]; omega)) ⟨by first | decide | omega, by first | decide | omega, by first | decide | omega, by first | decide | omega⟩ (fun s1 h1 => ?_)
    | with_reducible refine q_goalp (by assumption) (PR_a (by assumption)) (by omega) (by first | exact nlo_ _ | exact nsb1_ (by omega) | exact nI_1 _ | exact n8_ _ | rfl | exact PR_a (by assumption) | exact PR_o (by assumption) | exact PR_d4 (by assumption) | assumption) (by first | exact nlo_ _ | exact nsb1_ (by omega) | exact nI_1 _ | exact n8_ _ | rfl | exact PR_a (by assumption) | exact PR_o (by assumption) | exact PR_d4 (by assumption) | assumption) (by first | exact nlo_ _ | exact nsb1_ (by omega) | exact nI_1 _ | exact n8_ _ | rfl | exact PR_a (by assumption) | exact PR_o (by assumption) | exact PR_d4 (by assumption) | assumption) (by first | exact nlo_ _ | exact nsb1_ (by omega) | exact nI_1 _ | exact n8_ _ | rfl | exact PR_a (by assumption) | exact PR_o (by assumption) | exact PR_d4 (by assumption) | assumption) (by first | omega | (simp only [List.length_cons]; omega)) ⟨by first | decide | omega, by first | decide | omega, by first | decide | omega, by first | decide | omega⟩ (fun s1 h1 => ?_)
    | with_reducible refine q_tk (by assumption) ?_
    | with_reducible refine q_tkp (by assumption) (PR_a (by assumption)) (by omega) (fun s1 h1 => ?_)
    | with_reducible refine q_takeq (by assumption) (by first | exact nlo_ _ | rfl) (by first | decide | omega) (by first | decide | omega) (fun hk1 s1 h1 => ?_) ?_
    | with_reducible refine q_take' (by assumption) (by first | exact nlo_ _ | rfl) (by first | decide | omega) (by first | decide | omega) (fun hk1 s1 h1 => ?_) (fun hk0 => ?_)
    | with_reducible refine q_takep (by assumption) (PR_a (by assumption)) (by omega) (by first | exact nlo_ _ | rfl) (by first | decide | omega) (by first | decide | omega) (fun hk1 s1 h1 => ?_) (fun hk0 s1 h1 => ?_)
    | with_reducible refine q_openp (by assumption) (PR_a (by assumption)) (by omega) (by omega) (by omega) (fun s1 h1 => ?_) (fun hk1 hd1 s1 h1 => ?_)
    | with_reducible refine q_deep (by assumption) (fun hd0 => ?_) (fun hd1 s1 h1 => ?_) (by omega)
    | with_reducible refine q_openq (by assumption) (by omega) (by omega) ?_ (fun hk1 hd1 s1 h1 => ?_)
    | with_reducible refine q_shutS (by assumption) (by omega) (fun s1 e1 t1 => ?_) (fun s1 p1 d1 sc1 h1 hp1 => ?_)
    | with_reducible refine q_shut' (by assumption) (by first | exact nlo_ _ | exact nsb1_ (by omega) | exact nI_1 _ | exact n8_ _ | rfl | exact PR_a (by assumption) | exact PR_o (by assumption) | exact PR_d4 (by assumption) | assumption) (by first | exact nlo_ _ | exact nsb1_ (by omega) | exact nI_1 _ | exact n8_ _ | rfl | exact PR_a (by assumption) | exact PR_o (by assumption) | exact PR_d4 (by assumption) | assumption) (by first | exact nlo_ _ | exact nsb1_ (by omega) | exact nI_1 _ | exact n8_ _ | rfl | exact PR_a (by assumption) | exact PR_o (by assumption) | exact PR_d4 (by assumption) | assumption) (by first | exact nlo_ _ | exact nsb1_ (by omega) | exact nI_1 _ | exact n8_ _ | rfl | exact PR_a (by assumption) | exact PR_o (by assumption) | exact PR_d4 (by assumption) | assumption) (by omega) (by first | decide | omega) (by first | decide | omega) (fun hb1 s1 h1 _ => ?_)
    | with_reducible refine q_leaf' (by assumption) (by first | exact nlo_ _ | exact nsb1_ (by omega) | exact nI_1 _ | exact n8_ _ | rfl | exact PR_a (by assumption) | exact PR_o (by assumption) | exact PR_d4 (by assumption) | assumption) (by first | exact nlo_ _ | exact nsb1_ (by omega) | exact nI_1 _ | exact n8_ _ | rfl | exact PR_a (by assumption) | exact PR_o (by assumption) | exact PR_d4 (by assumption) | assumption) rfl (by omega) (by decide) (by first | decide | omega) (fun s1 h1 => ?_)
    | with_reducible refine q_leafp (by assumption) (PR_a (by assumption)) (by omega) (by first | exact nlo_ _ | exact nsb1_ (by omega) | exact nI_1 _ | exact n8_ _ | rfl | exact PR_a (by assumption) | exact PR_o (by assumption) | exact PR_d4 (by assumption) | assumption) (by first | exact nlo_ _ | exact nsb1_ (by omega) | exact nI_1 _ | exact n8_ _ | rfl | exact PR_a (by assumption) | exact PR_o (by assumption) | exact PR_d4 (by assumption) | assumption) rfl (by omega) (by decide) (by first | decide | omega) (fun s1 h1 => ?_)
    | with_reducible refine q_labels' (by assumption) (by omega) (by omega) (fun s1 os1 p1 n1 el1 h1 => ?_)
    | with_reducible refine q_tqy (by assumption) ?_
    | with_reducible refine q_tqn (by assumption) ?_
    | with_reducible refine q_30 (by assumption) (by omega) (fun s1 h1 => ?_)
    | with_reducible refine q_ite (fun hk1 => ?_) (fun hk0 => ?_)
    | contradiction
    | with_reducible exact absurd (And.intro (by assumption) (by assumption)) (by assumption)
    | (exfalso; omega)
    | simp only [nx 0 (by decide), nx 1 (by decide), gpT, List.cons_append, List.nil_append, show (0 : Int32) &&& 1 = 0 from rfl, show (1 : Int32) &&& 1 = 1 from rfl, show ¬ ((1 : Int32) = 0) by decide, show ¬ ((0 : Int32) = 1) by decide, if_true, if_false, eq_self_iff_true]
    | split
set_option maxRecDepth 8000 in
set_option maxHeartbeats 1000000 in
theorem g_8 (d x y z : Nat) (h : PR K V N lx s (gs, os, p, dp, sc, n)) (hg : gs.length + 10 ≤ 9000) (hs : sc.length < 70) (hp : p ≤ N) (hn : n + (N - p) + 10 ≤ 26000) (hd : dp ≤ 60) (hx : x < 2 ^ 26) (hy : y < 2 ^ 26) (hz : z < 2 ^ 26) : pq_ K V N lx (pg_8 K V N lx x y z (gs, os, p, dp, sc, n)) (mE (d + 8) 34 [vr_ (some 0), vi_ (nI 8), vi_ (nI x), vi_ (nI y), vi_ (nI z)] s) := by
  have t2 := h.1.2.1
  have nk : ∀ q c, c < 2 ^ 31 → (nI (K q) = (OfNat.ofNat c : Int32)) = (K q = c) := fun q c hc => neq1_ c (PT_k h.1 q) hc
  have nx : ∀ c, c < 2 ^ 31 → (nI x = (OfNat.ofNat c : Int32)) = (x = c) := fun c hc => neq1_ c (by omega) hc
  have hol := PO_len h.2.2.2.2.2
  rw [me_reachD]
  refine q_tk h ?_
  rw [if_neg (by decide), if_neg (by decide), if_neg (by decide), if_pos (by decide)]
  dsimp only [pg_8]
  match os, h, hol with
  | [], h, _ => exact q_none
  | t :: os, h, hol =>
    obtain ⟨i, e1, e2, e3, e4⟩ := q_top h (by omega)
    rw [e1, Option.bind_some, e2, Option.bind_some]
    simp only [neq1_ 54 (show kd_ t < 2 ^ 31 by omega) (by decide)]
    repeat' first
      | with_reducible exact q_none
      | with_reducible exact q_ok (by assumption)
      | with_reducible exact q_okd (by assumption) (by omega)
      | with_reducible exact q_fl (by assumption)
      | with_reducible exact q_fl' (by assumption) (by assumption)
      | with_reducible exact q_okp (by assumption) (by omega) (PR_a (by assumption))
      | with_reducible refine q_goal' (by assumption) (by first | exact nlo_ _ | exact nsb1_ (by omega) | exact nI_1 _ | exact n8_ _ | rfl | exact PR_a (by assumption) | exact PR_o (by assumption) | exact PR_d4 (by assumption) | assumption) (by first | exact nlo_ _ | exact nsb1_ (by omega) | exact nI_1 _ | exact n8_ _ | rfl | exact PR_a (by assumption) | exact PR_o (by assumption) | exact PR_d4 (by assumption) | assumption) (by first | exact nlo_ _ | exact nsb1_ (by omega) | exact nI_1 _ | exact n8_ _ | rfl | exact PR_a (by assumption) | exact PR_o (by assumption) | exact PR_d4 (by assumption) | assumption) (by first | exact nlo_ _ | exact nsb1_ (by omega) | exact nI_1 _ | exact n8_ _ | rfl | exact PR_a (by assumption) | exact PR_o (by assumption) | exact PR_d4 (by assumption) | assumption) (by first | omega | (simp only [List.length_cons]; omega)) ⟨by first | decide | omega, by first | decide | omega, by first | decide | omega, by first | decide | omega⟩ (fun s1 h1 => ?_)
      | with_reducible refine q_goalp (by assumption) (PR_a (by assumption)) (by omega) (by first | exact nlo_ _ | exact nsb1_ (by omega) | exact nI_1 _ | exact n8_ _ | rfl | exact PR_a (by assumption) | exact PR_o (by assumption) | exact PR_d4 (by assumption) | assumption) (by first | exact nlo_ _ | exact nsb1_ (by omega) | exact nI_1 _ | exact n8_ _ | rfl | exact PR_a (by assumption) | exact PR_o (by assumption) | exact PR_d4 (by assumption) | assumption) (by first | exact nlo_ _ | exact nsb1_ (by omega) | exact nI_1 _ | exact n8_ _ | rfl | exact PR_a (by assumption) | exact PR_o (by assumption) | exact PR_d4 (by assumption) | assumption) (by first | exact nlo_ _ | exact nsb1_ (by omega) | exact nI_1 _ | exact n8_ _ | rfl | exact PR_a (by assumption) | exact PR_o (by assumption) | exact PR_d4 (by assumption) | assumption) (by first | omega | (simp only [List.length_cons]; omega)) ⟨by first | decide | omega, by first | decide | omega, by first | decide | omega, by first | decide | omega⟩ (fun s1 h1 => ?_)
      | with_reducible refine q_tk (by assumption) ?_
      | with_reducible refine q_tkp (by assumption) (PR_a (by assumption)) (by omega) (fun s1 h1 => ?_)
      | with_reducible refine q_takeq (by assumption) (by first | exact nlo_ _ | rfl) (by first | decide | omega) (by first | decide | omega) (fun hk1 s1 h1 => ?_) ?_
      | with_reducible refine q_take' (by assumption) (by first | exact nlo_ _ | rfl) (by first | decide | omega) (by first | decide | omega) (fun hk1 s1 h1 => ?_) (fun hk0 => ?_)
      | with_reducible refine q_takep (by assumption) (PR_a (by assumption)) (by omega) (by first | exact nlo_ _ | rfl) (by first | decide | omega) (by first | decide | omega) (fun hk1 s1 h1 => ?_) (fun hk0 s1 h1 => ?_)
      | with_reducible refine q_openp (by assumption) (PR_a (by assumption)) (by omega) (by omega) (by omega) (fun s1 h1 => ?_) (fun hk1 hd1 s1 h1 => ?_)
      | with_reducible refine q_deep (by assumption) (fun hd0 => ?_) (fun hd1 s1 h1 => ?_) (by omega)
      | with_reducible refine q_openq (by assumption) (by omega) (by omega) ?_ (fun hk1 hd1 s1 h1 => ?_)
      | with_reducible refine q_shutS (by assumption) (by omega) (fun s1 e1 t1 => ?_) (fun s1 p1 d1 sc1 h1 hp1 => ?_)
      | with_reducible refine q_shut' (by assumption) (by first | exact nlo_ _ | exact nsb1_ (by omega) | exact nI_1 _ | exact n8_ _ | rfl | exact PR_a (by assumption) | exact PR_o (by assumption) | exact PR_d4 (by assumption) | assumption) (by first | exact nlo_ _ | exact nsb1_ (by omega) | exact nI_1 _ | exact n8_ _ | rfl | exact PR_a (by assumption) | exact PR_o (by assumption) | exact PR_d4 (by assumption) | assumption) (by first | exact nlo_ _ | exact nsb1_ (by omega) | exact nI_1 _ | exact n8_ _ | rfl | exact PR_a (by assumption) | exact PR_o (by assumption) | exact PR_d4 (by assumption) | assumption) (by first | exact nlo_ _ | exact nsb1_ (by omega) | exact nI_1 _ | exact n8_ _ | rfl | exact PR_a (by assumption) | exact PR_o (by assumption) | exact PR_d4 (by assumption) | assumption) (by omega) (by first | decide | omega) (by first | decide | omega) (fun hb1 s1 h1 _ => ?_)
      | with_reducible refine q_leaf' (by assumption) (by first | exact nlo_ _ | exact nsb1_ (by omega) | exact nI_1 _ | exact n8_ _ | rfl | exact PR_a (by assumption) | exact PR_o (by assumption) | exact PR_d4 (by assumption) | assumption) (by first | exact nlo_ _ | exact nsb1_ (by omega) | exact nI_1 _ | exact n8_ _ | rfl | exact PR_a (by assumption) | exact PR_o (by assumption) | exact PR_d4 (by assumption) | assumption) rfl (by omega) (by decide) (by first | decide | omega) (fun s1 h1 => ?_)
      | with_reducible refine q_leafp (by assumption) (PR_a (by assumption)) (by omega) (by first | exact nlo_ _ | exact nsb1_ (by omega) | exact nI_1 _ | exact n8_ _ | rfl | exact PR_a (by assumption) | exact PR_o (by assumption) | exact PR_d4 (by assumption) | assumption) (by first | exact nlo_ _ | exact nsb1_ (by omega) | exact nI_1 _ | exact n8_ _ | rfl | exact PR_a (by assumption) | exact PR_o (by assumption) | exact PR_d4 (by assumption) | assumption) rfl (by omega) (by decide) (by first | decide | omega) (fun s1 h1 => ?_)
      | with_reducible refine q_labels' (by assumption) (by omega) (by omega) (fun s1 os1 p1 n1 el1 h1 => ?_)
      | with_reducible refine q_tqy (by assumption) ?_
      | with_reducible refine q_tqn (by assumption) ?_
      | with_reducible refine q_30 (by assumption) (by omega) (fun s1 h1 => ?_)
      | with_reducible refine q_ite (fun hk1 => ?_) (fun hk0 => ?_)
      | contradiction
      | with_reducible exact absurd (And.intro (by assumption) (by assumption)) (by assumption)
      | (exfalso; omega)
      | simp only [fun q => nk q 44 (by decide), gpT, List.cons_append, List.nil_append, show (0 : Int32) &&& 1 = 0 from rfl, show (1 : Int32) &&& 1 = 1 from rfl, show ¬ ((1 : Int32) = 0) by decide, show ¬ ((0 : Int32) = 1) by decide, if_true, if_false, eq_self_iff_true]
      | split
set_option maxRecDepth 8000 in
theorem p_139 (d tok base : Nat) (h : PR K V N lx s (gs, os, p, dp, sc, n)) (hg : gs.length + 10 ≤ 9000) (ht : tok < 2 ^ 30) (hb : base < 2 ^ 30) (hp : p ≤ N) : pq_ K V N lx (if K p = 13 then (if K (p + 1) = 25 then ok_ ((28, 0, 0, 0) :: (6, 54, tok, base) :: gs, os, p + 2, dp, sc, n) else if K (p + 1) = 45 then ok_ ((11, 0, 0, 0) :: (6, 54, tok, base) :: gs, os, p + 2, dp, sc, n) else fl_ (p + 1)) else fl_ p) (mJ (d + 7) 35 139 [vr_ (some 0), vi_ (nI tok), vi_ (nI base)] [] s) := by
  have t2 := h.1.2.1
  have nk : ∀ q c, c < 2 ^ 31 → (nI (K q) = (OfNat.ofNat c : Int32)) = (K q = c) := fun q c hc => neq1_ c (PT_k h.1 q) hc
  rw [mj_reachP_139]
  repeat' first
    | with_reducible exact q_none
    | with_reducible exact q_ok (by assumption)
    | with_reducible exact q_okd (by assumption) (by omega)
    | with_reducible exact q_fl (by assumption)
    | with_reducible exact q_fl' (by assumption) (by assumption)
    | with_reducible exact q_okp (by assumption) (by omega) (PR_a (by assumption))
    | with_reducible refine q_goal' (by assumption) (by first | exact nlo_ _ | exact nsb1_ (by omega) | exact nI_1 _ | exact n8_ _ | rfl | exact PR_a (by assumption) | exact PR_o (by assumption) | exact PR_d4 (by assumption) | assumption) (by first | exact nlo_ _ | exact nsb1_ (by omega) | exact nI_1 _ | exact n8_ _ | rfl | exact PR_a (by assumption) | exact PR_o (by assumption) | exact PR_d4 (by assumption) | assumption) (by first | exact nlo_ _ | exact nsb1_ (by omega) | exact nI_1 _ | exact n8_ _ | rfl | exact PR_a (by assumption) | exact PR_o (by assumption) | exact PR_d4 (by assumption) | assumption) (by first | exact nlo_ _ | exact nsb1_ (by omega) | exact nI_1 _ | exact n8_ _ | rfl | exact PR_a (by assumption) | exact PR_o (by assumption) | exact PR_d4 (by assumption) | assumption) (by first | omega | (simp only [List.length_cons]; omega)) ⟨by first | decide | omega, by first | decide | omega, by first | decide | omega, by first | decide | omega⟩ (fun s1 h1 => ?_)
    | with_reducible refine q_goalp (by assumption) (PR_a (by assumption)) (by omega) (by first | exact nlo_ _ | exact nsb1_ (by omega) | exact nI_1 _ | exact n8_ _ | rfl | exact PR_a (by assumption) | exact PR_o (by assumption) | exact PR_d4 (by assumption) | assumption) (by first | exact nlo_ _ | exact nsb1_ (by omega) | exact nI_1 _ | exact n8_ _ | rfl | exact PR_a (by assumption) | exact PR_o (by assumption) | exact PR_d4 (by assumption) | assumption) (by first | exact nlo_ _ | exact nsb1_ (by omega) | exact nI_1 _ | exact n8_ _ | rfl | exact PR_a (by assumption) | exact PR_o (by assumption) | exact PR_d4 (by assumption) | assumption) (by first | exact nlo_ _ | exact nsb1_ (by omega) | exact nI_1 _ | exact n8_ _ | rfl | exact PR_a (by assumption) | exact PR_o (by assumption) | exact PR_d4 (by assumption) | assumption) (by first | omega | (simp only [List.length_cons]; omega)) ⟨by first | decide | omega, by first | decide | omega, by first | decide | omega, by first | decide | omega⟩ (fun s1 h1 => ?_)
    | with_reducible refine q_tk (by assumption) ?_
    | with_reducible refine q_tkp (by assumption) (PR_a (by assumption)) (by omega) (fun s1 h1 => ?_)
    | with_reducible refine q_takeq (by assumption) (by first | exact nlo_ _ | rfl) (by first | decide | omega) (by first | decide | omega) (fun hk1 s1 h1 => ?_) ?_
    | with_reducible refine q_take' (by assumption) (by first | exact nlo_ _ | rfl) (by first | decide | omega) (by first | decide | omega) (fun hk1 s1 h1 => ?_) (fun hk0 => ?_)
    | with_reducible refine q_takep (by assumption) (PR_a (by assumption)) (by omega) (by first | exact nlo_ _ | rfl) (by first | decide | omega) (by first | decide | omega) (fun hk1 s1 h1 => ?_) (fun hk0 s1 h1 => ?_)
    | with_reducible refine q_openp (by assumption) (PR_a (by assumption)) (by omega) (by omega) (by omega) (fun s1 h1 => ?_) (fun hk1 hd1 s1 h1 => ?_)
    | with_reducible refine q_deep (by assumption) (fun hd0 => ?_) (fun hd1 s1 h1 => ?_) (by omega)
    | with_reducible refine q_openq (by assumption) (by omega) (by omega) ?_ (fun hk1 hd1 s1 h1 => ?_)
    | with_reducible refine q_shutS (by assumption) (by omega) (fun s1 e1 t1 => ?_) (fun s1 p1 d1 sc1 h1 hp1 => ?_)
    | with_reducible refine q_shut' (by assumption) (by first | exact nlo_ _ | exact nsb1_ (by omega) | exact nI_1 _ | exact n8_ _ | rfl | exact PR_a (by assumption) | exact PR_o (by assumption) | exact PR_d4 (by assumption) | assumption) (by first | exact nlo_ _ | exact nsb1_ (by omega) | exact nI_1 _ | exact n8_ _ | rfl | exact PR_a (by assumption) | exact PR_o (by assumption) | exact PR_d4 (by assumption) | assumption) (by first | exact nlo_ _ | exact nsb1_ (by omega) | exact nI_1 _ | exact n8_ _ | rfl | exact PR_a (by assumption) | exact PR_o (by assumption) | exact PR_d4 (by assumption) | assumption) (by first | exact nlo_ _ | exact nsb1_ (by omega) | exact nI_1 _ | exact n8_ _ | rfl | exact PR_a (by assumption) | exact PR_o (by assumption) | exact PR_d4 (by assumption) | assumption) (by omega) (by first | decide | omega) (by first | decide | omega) (fun hb1 s1 h1 _ => ?_)
    | with_reducible refine q_leaf' (by assumption) (by first | exact nlo_ _ | exact nsb1_ (by omega) | exact nI_1 _ | exact n8_ _ | rfl | exact PR_a (by assumption) | exact PR_o (by assumption) | exact PR_d4 (by assumption) | assumption) (by first | exact nlo_ _ | exact nsb1_ (by omega) | exact nI_1 _ | exact n8_ _ | rfl | exact PR_a (by assumption) | exact PR_o (by assumption) | exact PR_d4 (by assumption) | assumption) rfl (by omega) (by decide) (by first | decide | omega) (fun s1 h1 => ?_)
    | with_reducible refine q_leafp (by assumption) (PR_a (by assumption)) (by omega) (by first | exact nlo_ _ | exact nsb1_ (by omega) | exact nI_1 _ | exact n8_ _ | rfl | exact PR_a (by assumption) | exact PR_o (by assumption) | exact PR_d4 (by assumption) | assumption) (by first | exact nlo_ _ | exact nsb1_ (by omega) | exact nI_1 _ | exact n8_ _ | rfl | exact PR_a (by assumption) | exact PR_o (by assumption) | exact PR_d4 (by assumption) | assumption) rfl (by omega) (by decide) (by first | decide | omega) (fun s1 h1 => ?_)
    | with_reducible refine q_labels' (by assumption) (by omega) (by omega) (fun s1 os1 p1 n1 el1 h1 => ?_)
    | with_reducible refine q_tqy (by assumption) ?_
    | with_reducible refine q_tqn (by assumption) ?_
    | with_reducible refine q_30 (by assumption) (by omega) (fun s1 h1 => ?_)
    | rw [mj_reachP_182]
    | with_reducible refine q_ite (fun hk1 => ?_) (fun hk0 => ?_)
    | contradiction
    | with_reducible exact absurd (And.intro (by assumption) (by assumption)) (by assumption)
    | (exfalso; omega)
    | simp only [fun q => nk q 13 (by decide), fun q => nk q 25 (by decide), fun q => nk q 45 (by decide), gpT, List.cons_append, List.nil_append, show (0 : Int32) &&& 1 = 0 from rfl, show (1 : Int32) &&& 1 = 1 from rfl, show ¬ ((1 : Int32) = 0) by decide, show ¬ ((0 : Int32) = 1) by decide, if_true, if_false, eq_self_iff_true]
    | split
set_option maxRecDepth 8000 in
theorem p_42 (d tok base : Nat) (hg : gs.length + 10 ≤ 9000) (ht : tok < 2 ^ 30) (hb : base < 2 ^ 30) : ∀ m many (s : mm_S) (os : List tr_) (p n : Nat), PR K V N lx s (gs, os, p, dp, sc, n) → p ≤ N → n + (N - p) + 5 ≤ 26000 → many ≤ 20 → pq_ K V N lx (pp_ K V tok base m many (gs, os, p, dp, sc, n)) (mJ (d + 7) 35 42 [vr_ (some 0), vi_ (nI tok), vi_ (nI base), vi_ (nI many)] [] s) := by
  intro m
  induction m with
  | zero => intro many s os p n h hp hn hm; exact q_none
  | succ m ih =>
    intro many s os p n h hp hn hm
    have t2 := h.1.2.1
    have nk : ∀ q c, c < 2 ^ 31 → (nI (K q) = (OfNat.ofNat c : Int32)) = (K q = c) := fun q c hc => neq1_ c (PT_k h.1 q) hc
    dsimp only [pp_]
    rw [mj_reachP_42]
    refine q_tk h ?_
    simp only [fun q => nk q 1 (by decide), nlt1_ 20 (show many < 2 ^ 31 by omega) (by decide)]
    by_cases hk : K p = 1
    · have hpN := PT_lt h.1 hk (by decide)
      rw [if_pos hk]
      by_cases hm2 : many < 20
      · rw [if_pos ⟨hk, hm2⟩, if_pos hm2, PR_a h, mm_a_n (by omega) (by decide), Option.bind_some, (h.1.2.2.1 p hpN).2]
        refine q_leaf' h (nlo_ _) rfl rfl (by omega) (by decide) (by omega) (fun s1 h1 => ?_)
        refine q_tkp h1 (PR_a h1) (by omega) (fun s2 h2 => ?_)
        simp only [fun q => nk q 13 (by decide), nI_1]
        refine q_ite (fun hk2 => ?_) (fun hk2 => ?_)
        · exact ih (many + 1) s2 _ (p + 1) (n + 1) h2 (by omega) (by omega) (by omega)
        refine q_tk h2 ?_
        simp only [fun q => nk q 14 (by decide)]
        refine q_ite (fun hk3 => ?_) (fun hk3 => q_fl h2)
        have hpN2 := PT_lt h.1 hk3 (by decide)
        simp only [neq1_ 20 (show many + 1 < 2 ^ 31 by omega) (by decide)]
        refine q_ite (fun hm3 => q_fl h2) (fun hm3 => ?_)
        refine q_tkp h2 (PR_a h2) (by omega) (fun s3 h3 => ?_)
        simp only [fun q => nk q 1 (by decide)]
        refine q_ite (fun hk4 => ?_) (fun hk4 => q_fl h3)
        exact ih (many + 1) s3 _ (p + 2) (n + 1) h3 (by omega) (by omega) (by omega)
      · rw [if_neg (by omega), if_neg hm2]
        exact p_139 d tok base h hg ht hb hp
    · rw [if_neg (by omega), if_neg hk]
      exact p_139 d tok base h hg ht hb hp
set_option maxRecDepth 8000 in
theorem p_246 (d tok base : Nat) (hg : gs.length + 10 ≤ 9000) (ht : tok < 2 ^ 30) (hb : base < 2 ^ 30) : ∀ m many (s : mm_S) (os : List tr_) (p n : Nat), PR K V N lx s (gs, os, p, dp, sc, n) → p ≤ N → n + (N - p) + 5 ≤ 26000 → many + m < 2 ^ 30 → pq_ K V N lx (vn_ K V tok base m many (gs, os, p, dp, sc, n)) (mJ (d + 7) 35 246 [vr_ (some 0), vi_ (nI tok), vi_ (nI base), vi_ (nI many)] [] s) := by
  intro m
  induction m with
  | zero => intro many s os p n h hp hn hm; exact q_none
  | succ m ih =>
    intro many s os p n h hp hn hm
    have t2 := h.1.2.1
    have nk : ∀ q c, c < 2 ^ 31 → (nI (K q) = (OfNat.ofNat c : Int32)) = (K q = c) := fun q c hc => neq1_ c (PT_k h.1 q) hc
    dsimp only [vn_]
    rw [mj_reachP_246]
    refine q_take' h (nlo_ _) (by decide) (by decide) (fun hk s1 h1 => ?_) (fun hk => ?_)
    · have hpN := PT_lt h.1 hk (by decide)
      rw [if_pos hk, if_neg (c := (1 : Int32) = 0) (by decide)]
      refine q_tk h1 ?_
      simp only [fun q => nk q 1 (by decide)]
      refine q_ite (fun hk2 => ?_) (fun hk2 => q_fl h1)
      have hpN2 := PT_lt h.1 hk2 (by decide)
      rw [PR_a h1, mm_a_n (by omega) (by decide), Option.bind_some, (h1.1.2.2.1 _ hpN2).2]
      refine q_leaf' h1 (nlo_ _) rfl rfl (by omega) (by decide) (by omega) (fun s2 h2 => ?_)
      rw [PR_a h2, nI_1, nI_1]
      exact ih (many + 1) _ _ (p + 2) (n + 1) (PR_p h2 (p + 2) (by omega)) (by omega) (by omega) (by omega)
    · rw [if_neg hk, if_pos (c := (0 : Int32) = 0) rfl]
      refine q_take' h (nlo_ _) (by decide) (by decide) (fun hk2 s1 h1 => ?_) (fun hk2 => ?_)
      · rw [if_pos hk2, if_neg (c := (1 : Int32) = 0) (by decide)]
        repeat' first
        | with_reducible exact q_none
        | with_reducible exact q_ok (by assumption)
        | with_reducible exact q_okd (by assumption) (by omega)
        | with_reducible exact q_fl (by assumption)
        | with_reducible exact q_fl' (by assumption) (by assumption)
        | with_reducible exact q_okp (by assumption) (by omega) (PR_a (by assumption))
        | with_reducible refine q_goal' (by assumption) (by first | exact nlo_ _ | exact nsb1_ (by omega) | exact nI_1 _ | exact n8_ _ | rfl | exact PR_a (by assumption) | exact PR_o (by assumption) | exact PR_d4 (by assumption) | assumption) (by first | exact nlo_ _ | exact nsb1_ (by omega) | exact nI_1 _ | exact n8_ _ | rfl | exact PR_a (by assumption) | exact PR_o (by assumption) | exact PR_d4 (by assumption) | assumption) (by first | exact nlo_ _ | exact nsb1_ (by omega) | exact nI_1 _ | exact n8_ _ | rfl | exact PR_a (by assumption) | exact PR_o (by assumption) | exact PR_d4 (by assumption) | assumption) (by first | exact nlo_ _ | exact nsb1_ (by omega) | exact nI_1 _ | exact n8_ _ | rfl | exact PR_a (by assumption) | exact PR_o (by assumption) | exact PR_d4 (by assumption) | assumption) (by first | omega | (simp only [List.length_cons]; omega)) ⟨by first | decide | omega, by first | decide | omega, by first | decide | omega, by first | decide | omega⟩ (fun s1 h1 => ?_)
        | with_reducible refine q_goalp (by assumption) (PR_a (by assumption)) (by omega) (by first | exact nlo_ _ | exact nsb1_ (by omega) | exact nI_1 _ | exact n8_ _ | rfl | exact PR_a (by assumption) | exact PR_o (by assumption) | exact PR_d4 (by assumption) | assumption) (by first | exact nlo_ _ | exact nsb1_ (by omega) | exact nI_1 _ | exact n8_ _ | rfl | exact PR_a (by assumption) | exact PR_o (by assumption) | exact PR_d4 (by assumption) | assumption) (by first | exact nlo_ _ | exact nsb1_ (by omega) | exact nI_1 _ | exact n8_ _ | rfl | exact PR_a (by assumption) | exact PR_o (by assumption) | exact PR_d4 (by assumption) | assumption) (by first | exact nlo_ _ | exact nsb1_ (by omega) | exact nI_1 _ | exact n8_ _ | rfl | exact PR_a (by assumption) | exact PR_o (by assumption) | exact PR_d4 (by assumption) | assumption) (by first | omega | (simp only [List.length_cons]; omega)) ⟨by first | decide | omega, by first | decide | omega, by first | decide | omega, by first | decide | omega⟩ (fun s1 h1 => ?_)
        | with_reducible refine q_tk (by assumption) ?_
        | with_reducible refine q_tkp (by assumption) (PR_a (by assumption)) (by omega) (fun s1 h1 => ?_)
        | with_reducible refine q_takeq (by assumption) (by first | exact nlo_ _ | rfl) (by first | decide | omega) (by first | decide | omega) (fun hk1 s1 h1 => ?_) ?_
        | with_reducible refine q_take' (by assumption) (by first | exact nlo_ _ | rfl) (by first | decide | omega) (by first | decide | omega) (fun hk1 s1 h1 => ?_) (fun hk0 => ?_)
        | with_reducible refine q_takep (by assumption) (PR_a (by assumption)) (by omega) (by first | exact nlo_ _ | rfl) (by first | decide | omega) (by first | decide | omega) (fun hk1 s1 h1 => ?_) (fun hk0 s1 h1 => ?_)
        | with_reducible refine q_openp (by assumption) (PR_a (by assumption)) (by omega) (by omega) (by omega) (fun s1 h1 => ?_) (fun hk1 hd1 s1 h1 => ?_)
        | with_reducible refine q_deep (by assumption) (fun hd0 => ?_) (fun hd1 s1 h1 => ?_) (by omega)
        | with_reducible refine q_openq (by assumption) (by omega) (by omega) ?_ (fun hk1 hd1 s1 h1 => ?_)
        | with_reducible refine q_shutS (by assumption) (by omega) (fun s1 e1 t1 => ?_) (fun s1 p1 d1 sc1 h1 hp1 => ?_)
        | with_reducible refine q_shut' (by assumption) (by first | exact nlo_ _ | exact nsb1_ (by omega) | exact nI_1 _ | exact n8_ _ | rfl | exact PR_a (by assumption) | exact PR_o (by assumption) | exact PR_d4 (by assumption) | assumption) (by first | exact nlo_ _ | exact nsb1_ (by omega) | exact nI_1 _ | exact n8_ _ | rfl | exact PR_a (by assumption) | exact PR_o (by assumption) | exact PR_d4 (by assumption) | assumption) (by first | exact nlo_ _ | exact nsb1_ (by omega) | exact nI_1 _ | exact n8_ _ | rfl | exact PR_a (by assumption) | exact PR_o (by assumption) | exact PR_d4 (by assumption) | assumption) (by first | exact nlo_ _ | exact nsb1_ (by omega) | exact nI_1 _ | exact n8_ _ | rfl | exact PR_a (by assumption) | exact PR_o (by assumption) | exact PR_d4 (by assumption) | assumption) (by omega) (by first | decide | omega) (by first | decide | omega) (fun hb1 s1 h1 _ => ?_)
        | with_reducible refine q_leaf' (by assumption) (by first | exact nlo_ _ | exact nsb1_ (by omega) | exact nI_1 _ | exact n8_ _ | rfl | exact PR_a (by assumption) | exact PR_o (by assumption) | exact PR_d4 (by assumption) | assumption) (by first | exact nlo_ _ | exact nsb1_ (by omega) | exact nI_1 _ | exact n8_ _ | rfl | exact PR_a (by assumption) | exact PR_o (by assumption) | exact PR_d4 (by assumption) | assumption) rfl (by omega) (by decide) (by first | decide | omega) (fun s1 h1 => ?_)
        | with_reducible refine q_leafp (by assumption) (PR_a (by assumption)) (by omega) (by first | exact nlo_ _ | exact nsb1_ (by omega) | exact nI_1 _ | exact n8_ _ | rfl | exact PR_a (by assumption) | exact PR_o (by assumption) | exact PR_d4 (by assumption) | assumption) (by first | exact nlo_ _ | exact nsb1_ (by omega) | exact nI_1 _ | exact n8_ _ | rfl | exact PR_a (by assumption) | exact PR_o (by assumption) | exact PR_d4 (by assumption) | assumption) rfl (by omega) (by decide) (by first | decide | omega) (fun s1 h1 => ?_)
        | with_reducible refine q_labels' (by assumption) (by omega) (by omega) (fun s1 os1 p1 n1 el1 h1 => ?_)
        | with_reducible refine q_tqy (by assumption) ?_
        | with_reducible refine q_tqn (by assumption) ?_
        | with_reducible refine q_30 (by assumption) (by omega) (fun s1 h1 => ?_)
        | with_reducible refine q_ite (fun hk1 => ?_) (fun hk0 => ?_)
        | contradiction
        | with_reducible exact absurd (And.intro (by assumption) (by assumption)) (by assumption)
        | (exfalso; omega)
        | simp only [gpT, List.cons_append, List.nil_append, show (0 : Int32) &&& 1 = 0 from rfl, show (1 : Int32) &&& 1 = 1 from rfl, show ¬ ((1 : Int32) = 0) by decide, show ¬ ((0 : Int32) = 1) by decide, if_true, if_false, eq_self_iff_true]
        | split
      · rw [if_neg hk2, if_pos (c := (0 : Int32) = 0) rfl]
        exact q_fl h
set_option maxRecDepth 8000 in
set_option maxHeartbeats 1000000 in
theorem g_7 (d x y z : Nat) (h : PR K V N lx s (gs, os, p, dp, sc, n)) (hg : gs.length + 10 ≤ 9000) (hs : sc.length < 70) (hp : p ≤ N) (hn : n + (N - p) + 10 ≤ 26000) (hd : dp ≤ 60) (hx : x < 2 ^ 26) (hy : y < 2 ^ 26) (hz : z < 2 ^ 26) : pq_ K V N lx (pg_7 K V N lx x y z (gs, os, p, dp, sc, n)) (mE (d + 8) 34 [vr_ (some 0), vi_ (nI 7), vi_ (nI x), vi_ (nI y), vi_ (nI z)] s) := by
  have t2 := h.1.2.1
  have nk : ∀ q c, c < 2 ^ 31 → (nI (K q) = (OfNat.ofNat c : Int32)) = (K q = c) := fun q c hc => neq1_ c (PT_k h.1 q) hc
  have nx : ∀ c, c < 2 ^ 31 → (nI x = (OfNat.ofNat c : Int32)) = (x = c) := fun c hc => neq1_ c (by omega) hc
  have hol := PO_len h.2.2.2.2.2
  rw [me_reachD]
  refine q_tk h ?_
  rw [if_neg (by decide), if_neg (by decide), if_neg (by decide), if_neg (by decide), if_pos (by decide)]
  dsimp only [pg_7]
  refine q_ret ?_
  dsimp only [rp_]
  rw [me_reachP, PR_a h, PR_o h]
  refine q_take' h (nlo_ _) (by decide) (by decide) (fun hk s1 h1 => ?_) (fun hk => ?_)
  · have hpN := PT_lt h.1 hk (by decide)
    rw [if_pos hk, if_neg (c := (1 : Int32) = 0) (by decide)]
    refine q_tk h1 ?_
    simp only [fun q => nk q 12 (by decide)]
    refine q_ite (fun hk2 => ?_) (fun hk2 => ?_)
    · have hpN2 := PT_lt h.1 hk2 (by decide)
      rw [PR_a h1, nI_1]
      exact p_42 d p os.length hg (by omega) (by omega) 22 0 _ os (p + 2) n (PR_p h1 (p + 2) (by omega)) (by omega) (by omega) (by omega)
    · simp only [nx 1 (by decide)]
      refine q_ite (fun hx1 => q_fl h1) (fun hx1 => ?_)
      rw [mm_a_n (by omega) (by decide), Option.bind_some, (h1.1.2.2.1 _ hpN).2]
      refine q_leaf' h1 (nlo_ _) rfl rfl (by omega) (by decide) (by omega) (fun s2 h2 => ?_)
      exact p_246 d p os.length hg (by omega) (by omega) (N + 2) 1 s2 _ (p + 1) (n + 1) h2 (by omega) (by omega) (by omega)
  · rw [if_neg hk, if_pos (c := (0 : Int32) = 0) rfl]
    exact q_fl h
end PRgoal
