/-! ===== goals of commands: by gen/gen_pgoal.py ===== -/
section PRgoal
variable {K : Nat → Nat} {V : Nat → Int32} {N : Nat} {lx : Bool} {s : mm_S} {gs : List gl_} {os : List tr_} {p dp n : Nat} {sc : List (Int32 × Nat)} {r : pe_}
set_option maxRecDepth 8000 in
set_option maxHeartbeats 1000000 in
theorem g_12 (d x y z : Nat) (h : PR K V N lx s (gs, os, p, dp, sc, n)) (hg : gs.length + 10 ≤ 9000) (hs : sc.length < 70) (hp : p ≤ N) (hn : n + (N - p) + 10 ≤ 26000) (hd : dp ≤ 60) (hx : x < 2 ^ 26) (hy : y < 2 ^ 26) (hz : z < 2 ^ 26) : pq_ K V N lx (pg_12 K V N lx x y z (gs, os, p, dp, sc, n)) (mE (d + 8) 37 [vr_ (some 0), vi_ (nI 12), vi_ (nI x), vi_ (nI y), vi_ (nI z)] s) := by
  have t2 := h.1.2.1
  have nk : ∀ q c, c < 2 ^ 31 → (nI (K q) = (OfNat.ofNat c : Int32)) = (K q = c) := fun q c hc => neq1_ c (PT_k h.1 q) hc
  have nx : ∀ c, c < 2 ^ 31 → (nI x = (OfNat.ofNat c : Int32)) = (x = c) := fun c hc => neq1_ c (by omega) hc
  have hol := PO_len h.2.2.2.2.2
  rw [me_reachC]
  refine q_tk h ?_
  rw [if_neg (by decide), if_pos (by decide)]
  dsimp only [pg_12]
  repeat' first
    | with_reducible exact q_none
    | with_reducible exact q_ok (by assumption)
    | with_reducible exact q_okd (by assumption) (by omega)
    | with_reducible exact q_fl (by assumption)
    | with_reducible exact q_fl' (by assumption) (by assumption)
    | with_reducible exact q_okp (by assumption) (by omega) (PR_a (by assumption))
    | with_reducible refine q_goal' (by assumption) (by first | exact nlo_ _ | exact nsb1_ (by omega) | exact nI_1 _ | exact n8_ _ | rfl | exact PR_a (by assumption) | exact PR_o (by assumption) | exact PR_d4 (by assumption) | assumption) (by first | exact nlo_ _ | exact nsb1_ (by omega) | exact nI_1 _ | exact n8_ _ | rfl | exact PR_a (by assumption) | exact PR_o (by assumption) | exact PR_d4 (by assumption) | assumption) (by first | exact nlo_ _ | exact nsb1_ (by omega) | exact nI_1 _ | exact n8_ _ | rfl | exact PR_a (by assumption) | exact PR_o (by assumption) | exact PR_d4 (by assumption) | assumption) (by first | exact nlo_ _ | exact nsb1_ (by omega) | exact nI_1 _ | exact n8_ _ | rfl | exact PR_a (by assumption) | exact PR_o (by assumption) | exact PR_d4 (by assumption) | assumption) (by first | omega | (simp only [List.length_cons]; omega)) ⟨by first | decide | omega, by first | decide | omega, by first | decide | omega, by first | decide | omega⟩ (fun s1 h1 => ?_)
    | with_reducible refine q_goalp (by assumption) (PR_a (by assumption)) (by omega) (by first | exact nlo_ _ | exact nsb1_ (by omega) | exact nI_1 _ | exact n8_ _ | rfl | exact PR_a (by assumption) | exact PR_o (by assumption) | exact PR_d4 (by assumption) | assumption) (by first | exact nlo_ _ | exact nsb1_ (by omega) | exact nI_1 _ | exact n8_ _ | rfl | exact PR_a (by assumption) | exact PR_o (by assumption) | exact PR_d4 (by assumption) | assumption) (by first | exact nlo_ _ | exact nsb1_ (by omega) | exact nI_1 _ | exact n8_ _ | rfl | exact PR_a (by assumption) | exact PR_o (by assumption) | exact PR_d4 (by assumption) | assumption) (by first | exact nlo_ _ | exact nsb1_ (by omega) | exact nI_1 _ | exact n8_ _ | rfl | exact PR_a (by assumption) | exact PR_o (by assumption) | exact PR_d4 (by assumption) | assumption) (by first | omega | (simp only [List.length_cons]; omega)) ⟨by first | decide | omega, by first | decide | omega, by first | decide | omega, by first | decide | omega⟩ (fun s1 h1 => ?_)
    | with_reducible refine q_tk (by assumption) ?_
    | with_reducible refine q_tkp (by assumption) (PR_a (by assumption)) (by omega) (fun s1 h1 => ?_)
    | with_reducible refine q_takeq (by assumption) (by first | exact nlo_ _ | rfl) (by first | decide | omega) (by first | decide | omega) (fun hk1 s1 h1 => ?_) ?_
    | with_reducible refine q_take' (by assumption) (by first | exact nlo_ _ | rfl) (by first | decide | omega) (by first | decide | omega) (fun hk1 s1 h1 => ?_) (fun hk0 => ?_)
    | with_reducible refine q_takep (by assumption) (PR_a (by assumption)) (by omega) (by first | exact nlo_ _ | rfl) (by first | decide | omega) (by first | decide | omega) (fun hk1 s1 h1 => ?_) (fun hk0 s1 h1 => ?_)
    | with_reducible refine q_openp (by assumption) (PR_a (by assumption)) (by omega) (by omega) (by omega) (fun s1 h1 => ?_) (fun hk1 hd1 s1 h1 => ?_)
    | with_reducible refine q_deep (by assumption) (fun hd0 => ?_) (fun hd1 s1 h1 => ?_) (by omega)
    | with_reducible refine q_openq (by assumption) (by omega) (by omega) ?_ (fun hk1 hd1 s1 h1 => ?_)
    | with_reducible refine q_shutS (by assumption) (by omega) (fun s1 e1 t1 => ?_) (fun s1 p1 d1 sc1 h1 hp1 => ?_)
    | with_reducible refine q_shut' (by assumption) (by first | exact nlo_ _ | exact nsb1_ (by omega) | exact nI_1 _ | exact n8_ _ | rfl | exact PR_a (by assumption) | exact PR_o (by assumption) | exact PR_d4 (by assumption) | assumption) (by first | exact nlo_ _ | exact nsb1_ (by omega) | exact nI_1 _ | exact n8_ _ | rfl | exact PR_a (by assumption) | exact PR_o (by assumption) | exact PR_d4 (by assumption) | assumption) (by first | exact nlo_ _ | exact nsb1_ (by omega) | exact nI_1 _ | exact n8_ _ | rfl | exact PR_a (by assumption) | exact PR_o (by assumption) | exact PR_d4 (by assumption) | assumption) (by first | exact nlo_ _ | exact nsb1_ (by omega) | exact nI_1 _ | exact n8_ _ | rfl | exact PR_a (by assumption) | exact PR_o (by assumption) | exact PR_d4 (by assumption) | assumption) (by omega) (by first | decide | omega) (by first | decide | omega) (fun hb1 s1 h1 _ => ?_)
    | with_reducible refine q_leaf' (by assumption) (by first | exact nlo_ _ | exact nsb1_ (by omega) | exact nI_1 _ | exact n8_ _ | rfl | exact PR_a (by assumption) | exact PR_o (by assumption) | exact PR_d4 (by assumption) | assumption) (by first | exact nlo_ _ | exact nsb1_ (by omega) | exact nI_1 _ | exact n8_ _ | rfl | exact PR_a (by assumption) | exact PR_o (by assumption) | exact PR_d4 (by assumption) | assumption) rfl (by omega) (by decide) (by first | decide | omega) (fun s1 h1 => ?_)
    | with_reducible refine q_leafp (by assumption) (PR_a (by assumption)) (by omega) (by first | exact nlo_ _ | exact nsb1_ (by omega) | exact nI_1 _ | exact n8_ _ | rfl | exact PR_a (by assumption) | exact PR_o (by assumption) | exact PR_d4 (by assumption) | assumption) (by first | exact nlo_ _ | exact nsb1_ (by omega) | exact nI_1 _ | exact n8_ _ | rfl | exact PR_a (by assumption) | exact PR_o (by assumption) | exact PR_d4 (by assumption) | assumption) rfl (by omega) (by decide) (by first | decide | omega) (fun s1 h1 => ?_)
    | with_reducible refine q_labels' (by assumption) (by omega) (by omega) (fun s1 os1 p1 n1 el1 h1 => ?_)
    | with_reducible refine q_tqy (by assumption) ?_
    | with_reducible refine q_tqn (by assumption) ?_
    | with_reducible refine q_30 (by assumption) (by omega) (fun s1 h1 => ?_)
    | rw [mj_reachC_82]
    | with_reducible refine q_ite (fun hk1 => ?_) (fun hk0 => ?_)
    | contradiction
    | with_reducible exact absurd (And.intro (by assumption) (by assumption)) (by assumption)
    | (exfalso; omega)
    | simp only [fun q => nk q 68 (by decide), fun q => nk q 69 (by decide), fun q => nk q 70 (by decide), gpT, List.cons_append, List.nil_append, show (0 : Int32) &&& 1 = 0 from rfl, show (1 : Int32) &&& 1 = 1 from rfl, show ¬ ((1 : Int32) = 0) by decide, show ¬ ((0 : Int32) = 1) by decide, if_true, if_false, eq_self_iff_true]
    | split
set_option maxRecDepth 8000 in
set_option maxHeartbeats 1000000 in
theorem g_41 (d x y z : Nat) (h : PR K V N lx s (gs, os, p, dp, sc, n)) (hg : gs.length + 10 ≤ 9000) (hs : sc.length < 70) (hp : p ≤ N) (hn : n + (N - p) + 10 ≤ 26000) (hd : dp ≤ 60) (hx : x < 2 ^ 26) (hy : y < 2 ^ 26) (hz : z < 2 ^ 26) : pq_ K V N lx (pg_41 K V N lx x y z (gs, os, p, dp, sc, n)) (mE (d + 8) 37 [vr_ (some 0), vi_ (nI 41), vi_ (nI x), vi_ (nI y), vi_ (nI z)] s) := by
  have t2 := h.1.2.1
  have nk : ∀ q c, c < 2 ^ 31 → (nI (K q) = (OfNat.ofNat c : Int32)) = (K q = c) := fun q c hc => neq1_ c (PT_k h.1 q) hc
  have nx : ∀ c, c < 2 ^ 31 → (nI x = (OfNat.ofNat c : Int32)) = (x = c) := fun c hc => neq1_ c (by omega) hc
  have hol := PO_len h.2.2.2.2.2
  rw [me_reachC]
  refine q_tk h ?_
  rw [if_neg (by decide), if_neg (by decide), if_pos (by decide)]
  dsimp only [pg_41]
  repeat' first
    | with_reducible exact q_none
    | with_reducible exact q_ok (by assumption)
    | with_reducible exact q_okd (by assumption) (by omega)
    | with_reducible exact q_fl (by assumption)
    | with_reducible exact q_fl' (by assumption) (by assumption)
    | with_reducible exact q_okp (by assumption) (by omega) (PR_a (by assumption))
    | with_reducible refine q_goal' (by assumption) (by first | exact nlo_ _ | exact nsb1_ (by omega) | exact nI_1 _ | exact n8_ _ | rfl | exact PR_a (by assumption) | exact PR_o (by assumption) | exact PR_d4 (by assumption) | assumption) (by first | exact nlo_ _ | exact nsb1_ (by omega) | exact nI_1 _ | exact n8_ _ | rfl | exact PR_a (by assumption) | exact PR_o (by assumption) | exact PR_d4 (by assumption) | assumption) (by first | exact nlo_ _ | exact nsb1_ (by omega) | exact nI_1 _ | exact n8_ _ | rfl | exact PR_a (by assumption) | exact PR_o (by assumption) | exact PR_d4 (by assumption) | assumption) (by first | exact nlo_ _ | exact nsb1_ (by omega) | exact nI_1 _ | exact n8_ _ | rfl | exact PR_a (by assumption) | exact PR_o (by assumption) | exact PR_d4 (by assumption) | assumption) (by first | omega | (simp only [List.length_cons]; omega)) ⟨by first | decide | omega, by first | decide | omega, by first | decide | omega, by first | decide | omega⟩ (fun s1 h1 => ?_)
    | with_reducible refine q_goalp (by assumption) (PR_a (by assumption)) (by omega) (by first | exact nlo_ _ | exact nsb1_ (by omega) | exact nI_1 _ | exact n8_ _ | rfl | exact PR_a (by assumption) | exact PR_o (by assumption) | exact PR_d4 (by assumption) | assumption) (by first | exact nlo_ _ | exact nsb1_ (by omega) | exact nI_1 _ | exact n8_ _ | rfl | exact PR_a (by assumption) | exact PR_o (by assumption) | exact PR_d4 (by assumption) | assumption) (by first | exact nlo_ _ | exact nsb1_ (by omega) | exact nI_1 _ | exact n8_ _ | rfl | exact PR_a (by assumption) | exact PR_o (by assumption) | exact PR_d4 (by assumption) | assumption) (by first | exact nlo_ _ | exact nsb1_ (by omega) | exact nI_1 _ | exact n8_ _ | rfl | exact PR_a (by assumption) | exact PR_o (by assumption) | exact PR_d4 (by assumption) | assumption) (by first | omega | (simp only [List.length_cons]; omega)) ⟨by first | decide | omega, by first | decide | omega, by first | decide | omega, by first | decide | omega⟩ (fun s1 h1 => ?_)
    | with_reducible refine q_tk (by assumption) ?_
    | with_reducible refine q_tkp (by assumption) (PR_a (by assumption)) (by omega) (fun s1 h1 => ?_)
    | with_reducible refine q_takeq (by assumption) (by first | exact nlo_ _ | rfl) (by first | decide | omega) (by first | decide | omega) (fun hk1 s1 h1 => ?_) ?_
    | with_reducible refine q_take' (by assumption) (by first | exact nlo_ _ | rfl) (by first | decide | omega) (by first | decide | omega) (fun hk1 s1 h1 => ?_) (fun hk0 => ?_)
    | with_reducible refine q_takep (by assumption) (PR_a (by assumption)) (by omega) (by first | exact nlo_ _ | rfl) (by first | decide | omega) (by first | decide | omega) (fun hk1 s1 h1 => ?_) (fun hk0 s1 h1 => ?_)
    | with_reducible refine q_openp (by assumption) (PR_a (by assumption)) (by omega) (by omega) (by omega) (fun s1 h1 => ?_) (fun hk1 hd1 s1 h1 => ?_)
    | with_reducible refine q_deep (by assumption) (fun hd0 => ?_) (fun hd1 s1 h1 => ?_) (by omega)
    | with_reducible refine q_openq (by assumption) (by omega) (by omega) ?_ (fun hk1 hd1 s1 h1 => ?_)
    | with_reducible refine q_shutS (by assumption) (by omega) (fun s1 e1 t1 => ?_) (fun s1 p1 d1 sc1 h1 hp1 => ?_)
    | with_reducible refine q_shut' (by assumption) (by first | exact nlo_ _ | exact nsb1_ (by omega) | exact nI_1 _ | exact n8_ _ | rfl | exact PR_a (by assumption) | exact PR_o (by assumption) | exact PR_d4 (by assumption) | assumption) (by first | exact nlo_ _ | exact nsb1_ (by omega) | exact nI_1 _ | exact n8_ _ | rfl | exact PR_a (by assumption) | exact PR_o (by assumption) | exact PR_d4 (by assumption) | assumption) (by first | exact nlo_ _ | exact nsb1_ (by omega) | exact nI_1 _ | exact n8_ _ | rfl | exact PR_a (by assumption) | exact PR_o (by assumption) | exact PR_d4 (by assumption) | assumption) (by first | exact nlo_ _ | exact nsb1_ (by omega) | exact nI_1 _ | exact n8_ _ | rfl | exact PR_a (by assumption) | exact PR_o (by assumption) | exact PR_d4 (by assumption) | assumption) (by omega) (by first | decide | omega) (by first | decide | omega) (fun hb1 s1 h1 _ => ?_)
    | with_reducible refine q_leaf' (by assumption) (by first | exact nlo_ _ | exact nsb1_ (by omega) | exact nI_1 _ | exact n8_ _ | rfl | exact PR_a (by assumption) | exact PR_o (by assumption) | exact PR_d4 (by assumption) | assumption) (by first | exact nlo_ _ | exact nsb1_ (by omega) | exact nI_1 _ | exact n8_ _ | rfl | exact PR_a (by assumption) | exact PR_o (by assumption) | exact PR_d4 (by assumption) | assumption) rfl (by omega) (by decide) (by first | decide | omega) (fun s1 h1 => ?_)
    | with_reducible refine q_leafp (by assumption) (PR_a (by assumption)) (by omega) (by first | exact nlo_ _ | exact nsb1_ (by omega) | exact nI_1 _ | exact n8_ _ | rfl | exact PR_a (by assumption) | exact PR_o (by assumption) | exact PR_d4 (by assumption) | assumption) (by first | exact nlo_ _ | exact nsb1_ (by omega) | exact nI_1 _ | exact n8_ _ | rfl | exact PR_a (by assumption) | exact PR_o (by assumption) | exact PR_d4 (by assumption) | assumption) rfl (by omega) (by decide) (by first | decide | omega) (fun s1 h1 => ?_)
    | with_reducible refine q_labels' (by assumption) (by omega) (by omega) (fun s1 os1 p1 n1 el1 h1 => ?_)
    | with_reducible refine q_tqy (by assumption) ?_
    | with_reducible refine q_tqn (by assumption) ?_
    | with_reducible refine q_30 (by assumption) (by omega) (fun s1 h1 => ?_)
    | with_reducible refine q_ite (fun hk1 => ?_) (fun hk0 => ?_)
    | contradiction
    | with_reducible exact absurd (And.intro (by assumption) (by assumption)) (by assumption)
    | (exfalso; omega)
    | simp only [fun q => nk q 56 (by decide), gpT, List.cons_append, List.nil_append, show (0 : Int32) &&& 1 = 0 from rfl, show (1 : Int32) &&& 1 = 1 from rfl, show ¬ ((1 : Int32) = 0) by decide, show ¬ ((0 : Int32) = 1) by decide, if_true, if_false, eq_self_iff_true]
    | split
set_option maxRecDepth 8000 in
set_option maxHeartbeats 1000000 in
theorem g_18 (d x y z : Nat) (h : PR K V N lx s (gs, os, p, dp, sc, n)) (hg : gs.length + 10 ≤ 9000) (hs : sc.length < 70) (hp : p ≤ N) (hn : n + (N - p) + 10 ≤ 26000) (hd : dp ≤ 60) (hx : x < 2 ^ 26) (hy : y < 2 ^ 26) (hz : z < 2 ^ 26) : pq_ K V N lx (pg_18 K V N lx x y z (gs, os, p, dp, sc, n)) (mE (d + 8) 37 [vr_ (some 0), vi_ (nI 18), vi_ (nI x), vi_ (nI y), vi_ (nI z)] s) := by
  have t2 := h.1.2.1
  have nk : ∀ q c, c < 2 ^ 31 → (nI (K q) = (OfNat.ofNat c : Int32)) = (K q = c) := fun q c hc => neq1_ c (PT_k h.1 q) hc
  have nx : ∀ c, c < 2 ^ 31 → (nI x = (OfNat.ofNat c : Int32)) = (x = c) := fun c hc => neq1_ c (by omega) hc
  have hol := PO_len h.2.2.2.2.2
  rw [me_reachC]
  refine q_tk h ?_
  rw [if_neg (by decide), if_neg (by decide), if_neg (by decide), if_pos (by decide)]
  dsimp only [pg_18]
  repeat' first
    | with_reducible exact q_none
    | with_reducible exact q_ok (by assumption)
    | with_reducible exact q_okd (by assumption) (by omega)
    | with_reducible exact q_fl (by assumption)
    | with_reducible exact q_fl' (by assumption) (by assumption)
    | with_reducible exact q_okp (by assumption) (by omega) (PR_a (by assumption))
    | with_reducible refine q_goal' (by assumption) (by first | exact nlo_ _ | exact nsb1_ (by omega) | exact nI_1 _ | exact n8_ _ | rfl | exact PR_a (by assumption) | exact PR_o (by assumption) | exact PR_d4 (by assumption) | assumption) (by first | exact nlo_ _ | exact nsb1_ (by omega) | exact nI_1 _ | exact n8_ _ | rfl | exact PR_a (by assumption) | exact PR_o (by assumption) | exact PR_d4 (by assumption) | assumption) (by first | exact nlo_ _ | exact nsb1_ (by omega) | exact nI_1 _ | exact n8_ _ | rfl | exact PR_a (by assumption) | exact PR_o (by assumption) | exact PR_d4 (by assumption) | assumption) (by first | exact nlo_ _ | exact nsb1_ (by omega) | exact nI_1 _ | exact n8_ _ | rfl | exact PR_a (by assumption) | exact PR_o (by assumption) | exact PR_d4 (by assumption) | assumption) (by first | omega | (simp only [List.length_cons]; omega)) ⟨by first | decide | omega, by first | decide | omega, by first | decide | omega, by first | decide | omega⟩ (fun s1 h1 => ?_)
    | with_reducible refine q_goalp (by assumption) (PR_a (by assumption)) (by omega) (by first | exact nlo_ _ | exact nsb1_ (by omega) | exact nI_1 _ | exact n8_ _ | rfl | exact PR_a (by assumption) | exact PR_o (by assumption) | exact PR_d4 (by assumption) | assumption) (by first | exact nlo_ _ | exact nsb1_ (by omega) | exact nI_1 _ | exact n8_ _ | rfl | exact PR_a (by assumption) | exact PR_o (by assumption) | exact PR_d4 (by assumption) | assumption) (by first | exact nlo_ _ | exact nsb1_ (by omega) | exact nI_1 _ | exact n8_ _ | rfl | exact PR_a (by assumption) | exact PR_o (by assumption) | exact PR_d4 (by assumption) | assumption) (by first | exact nlo_ _ | exact nsb1_ (by omega) | exact nI_1 _ | exact n8_ _ | rfl | exact PR_a (by assumption) | exact PR_o (by assumption) | exact PR_d4 (by assumption) | assumption) (by first | omega | (simp only [List.length_cons]; omega)) ⟨by first | decide | omega, by first | decide | omega, by first | decide | omega, by first | decide | omega⟩ (fun s1 h1 => ?_)
    | with_reducible refine q_tk (by assumption) ?_
    | with_reducible refine q_tkp (by assumption) (PR_a (by assumption)) (by omega) (fun s1 h1 => ?_)
    | with_reducible refine q_takeq (by assumption) (by first | exact nlo_ _ | rfl) (by first | decide | omega) (by first | decide | omega) (fun hk1 s1 h1 => ?_) ?_
    | with_reducible refine q_take' (by assumption) (by first | exact nlo_ _ | rfl) (by first | decide | omega) (by first | decide | omega) (fun hk1 s1 h1 => ?_) (fun hk0 => ?_)
    | with_reducible refine q_takep (by assumption) (PR_a (by assumption)) (by omega) (by first | exact nlo_ _ | rfl) (by first | decide | omega) (by first | decide | omega) (fun hk1 s1 h1 => ?_) (fun hk0 s1 h1 => ?_)
    | with_reducible refine q_openp (by assumption) (PR_a (by assumption)) (by omega) (by omega) (by omega) (fun s1 h1 => ?_) (fun hk1 hd1 s1 h1 => ?_)
    | with_reducible refine q_deep (by assumption) (fun hd0 => ?_) (fun hd1 s1 h1 => ?_) (by omega)
    | with_reducible refine q_openq (by assumption) (by omega) (by omega) ?_ (fun hk1 hd1 s1 h1 => ?_)
    | with_reducible refine q_shutS (by assumption) (by omega) (fun s1 e1 t1 => ?_) (fun s1 p1 d1 sc1 h1 hp1 => ?_)
    | with_reducible refine q_shut' (by assumption) (by first | exact nlo_ _ | exact nsb1_ (by omega) | exact nI_1 _ | exact n8_ _ | rfl | exact PR_a (by assumption) | exact PR_o (by assumption) | exact PR_d4 (by assumption) | assumption) (by first | exact nlo_ _ | exact nsb1_ (by omega) | exact nI_1 _ | exact n8_ _ | rfl | exact PR_a (by assumption) | exact PR_o (by assumption) | exact PR_d4 (by assumption) | assumption) (by first | exact nlo_ _ | exact nsb1_ (by omega) | exact nI_1 _ | exact n8_ _ | rfl | exact PR_a (by assumption) | exact PR_o (by assumption) | exact PR_d4 (by assumption) | assumption) (by first | exact nlo_ _ | exact nsb1_ (by omega) | exact nI_1 _ | exact n8_ _ | rfl | exact PR_a (by assumption) | exact PR_o (by assumption) | exact PR_d4 (by assumption) | assumption) (by omega) (by first | decide | omega) (by first | decide | omega) (fun hb1 s1 h1 _ => ?_)
    | with_reducible refine q_leaf' (by assumption) (by first | exact nlo_ _ | exact nsb1_ (by omega) | exact nI_1 _ | exact n8_ _ | rfl | exact PR_a (by assumption) | exact PR_o (by assumption) | exact PR_d4 (by assumption) | assumption) (by first | exact nlo_ _ | exact nsb1_ (by omega) | exact nI_1 _ | exact n8_ _ | rfl | exact PR_a (by assumption) | exact PR_o (by assumption) | exact PR_d4 (by assumption) | assumption) rfl (by omega) (by decide) (by first | decide | omega) (fun s1 h1 => ?_)
    | with_reducible refine q_leafp (by assumption) (PR_a (by assumption)) (by omega) (by first | exact nlo_ _ | exact nsb1_ (by omega) | exact nI_1 _ | exact n8_ _ | rfl | exact PR_a (by assumption) | exact PR_o (by assumption) | exact PR_d4 (by assumption) | assumption) (by first | exact nlo_ _ | exact nsb1_ (by omega) | exact nI_1 _ | exact n8_ _ | rfl | exact PR_a (by assumption) | exact PR_o (by assumption) | exact PR_d4 (by assumption) | assumption) rfl (by omega) (by decide) (by first | decide | omega) (fun s1 h1 => ?_)
    | with_reducible refine q_labels' (by assumption) (by omega) (by omega) (fun s1 os1 p1 n1 el1 h1 => ?_)
    | with_reducible refine q_tqy (by assumption) ?_
    | with_reducible refine q_tqn (by assumption) ?_
    | with_reducible refine q_30 (by assumption) (by omega) (fun s1 h1 => ?_)
    | with_reducible refine q_ite (fun hk1 => ?_) (fun hk0 => ?_)
    | contradiction
    | with_reducible exact absurd (And.intro (by assumption) (by assumption)) (by assumption)
    | (exfalso; omega)
    | simp only [gpT, List.cons_append, List.nil_append, show (0 : Int32) &&& 1 = 0 from rfl, show (1 : Int32) &&& 1 = 1 from rfl, show ¬ ((1 : Int32) = 0) by decide, show ¬ ((0 : Int32) = 1) by decide, if_true, if_false, eq_self_iff_true]
    | split
set_option maxRecDepth 8000 in
set_option maxHeartbeats 1000000 in
theorem g_19 (d x y z : Nat) (h : PR K V N lx s (gs, os, p, dp, sc, n)) (hg : gs.length + 10 ≤ 9000) (hs : sc.length < 70) (hp : p ≤ N) (hn : n + (N - p) + 10 ≤ 26000) (hd : dp ≤ 60) (hx : x < 2 ^ 26) (hy : y < 2 ^ 26) (hz : z < 2 ^ 26) : pq_ K V N lx (pg_19 K V N lx x y z (gs, os, p, dp, sc, n)) (mE (d + 8) 37 [vr_ (some 0), vi_ (nI 19), vi_ (nI x), vi_ (nI y), vi_ (nI z)] s) := by
  have t2 := h.1.2.1
  have nk : ∀ q c, c < 2 ^ 31 → (nI (K q) = (OfNat.ofNat c : Int32)) = (K q = c) := fun q c hc => neq1_ c (PT_k h.1 q) hc
  have nx : ∀ c, c < 2 ^ 31 → (nI x = (OfNat.ofNat c : Int32)) = (x = c) := fun c hc => neq1_ c (by omega) hc
  have hol := PO_len h.2.2.2.2.2
  rw [me_reachC]
  refine q_tk h ?_
  rw [if_neg (by decide), if_neg (by decide), if_neg (by decide), if_neg (by decide), if_pos (by decide)]
  dsimp only [pg_19]
  cases hdi : isD_ (K (p + 1))
  repeat' first
    | with_reducible exact q_none
    | with_reducible exact q_ok (by assumption)
    | with_reducible exact q_okd (by assumption) (by omega)
    | with_reducible exact q_fl (by assumption)
    | with_reducible exact q_fl' (by assumption) (by assumption)
    | with_reducible exact q_okp (by assumption) (by omega) (PR_a (by assumption))
    | with_reducible refine q_goal' (by assumption) (by first | exact nlo_ _ | exact nsb1_ (by omega) | exact nI_1 _ | exact n8_ _ | rfl | exact PR_a (by assumption) | exact PR_o (by assumption) | exact PR_d4 (by assumption) | assumption) (by first | exact nlo_ _ | exact nsb1_ (by omega) | exact nI_1 _ | exact n8_ _ | rfl | exact PR_a (by assumption) | exact PR_o (by assumption) | exact PR_d4 (by assumption) | assumption) (by first | exact nlo_ _ | exact nsb1_ (by omega) | exact nI_1 _ | exact n8_ _ | rfl | exact PR_a (by assumption) | exact PR_o (by assumption) | exact PR_d4 (by assumption) | assumption) (by first | exact nlo_ _ | exact nsb1_ (by omega) | exact nI_1 _ | exact n8_ _ | rfl | exact PR_a (by assumption) | exact PR_o (by assumption) | exact PR_d4 (by assumption) | assumption) (by first | omega | (simp only [List.length_cons]; omega)) ⟨by first | decide | omega, by first | decide | omega, by first | decide | omega, by first | decide | omega⟩ (fun s1 h1 => ?_)
    | with_reducible refine q_goalp (by assumption) (PR_a (by assumption)) (by omega) (by first | exact nlo_ _ | exact nsb1_ (by omega) | exact nI_1 _ | exact n8_ _ | rfl | exact PR_a (by assumption) | exact PR_o (by assumption) | exact PR_d4 (by assumption) | assumption) (by first | exact nlo_ _ | exact nsb1_ (by omega) | exact nI_1 _ | exact n8_ _ | rfl | exact PR_a (by assumption) | exact PR_o (by assumption) | exact PR_d4 (by assumption) | assumption) (by first | exact nlo_ _ | exact nsb1_ (by omega) | exact nI_1 _ | exact n8_ _ | rfl | exact PR_a (by assumption) | exact PR_o (by assumption) | exact PR_d4 (by assumption) | assumption) (by first | exact nlo_ _ | exact nsb1_ (by omega) | exact nI_1 _ | exact n8_ _ | rfl | exact PR_a (by assumption) | exact PR_o (by assumption) | exact PR_d4 (by assumption) | assumption) (by first | omega | (simp only [List.length_cons]; omega)) ⟨by first | decide | omega, by first | decide | omega, by first | decide | omega, by first | decide | omega⟩ (fun s1 h1 => ?_)
    | with_reducible refine q_tk (by assumption) ?_
    | with_reducible refine q_tkp (by assumption) (PR_a (by assumption)) (by omega) (fun s1 h1 => ?_)
    | with_reducible refine q_takeq (by assumption) (by first | exact nlo_ _ | rfl) (by first | decide | omega) (by first | decide | omega) (fun hk1 s1 h1 => ?_) ?_
    | with_reducible refine q_take' (by assumption) (by first | exact nlo_ _ | rfl) (by first | decide | omega) (by first | decide | omega) (fun hk1 s1 h1 => ?_) (fun hk0 => ?_)
    | with_reducible refine q_takep (by assumption) (PR_a (by assumption)) (by omega) (by first | exact nlo_ _ | rfl) (by first | decide | omega) (by first | decide | omega) (fun hk1 s1 h1 => ?_) (fun hk0 s1 h1 => ?_)
    | with_reducible refine q_openp (by assumption) (PR_a (by assumption)) (by omega) (by omega) (by omega) (fun s1 h1 => ?_) (fun hk1 hd1 s1 h1 => ?_)
    | with_reducible refine q_deep (by assumption) (fun hd0 => ?_) (fun hd1 s1 h1 => ?_) (by omega)
    | with_reducible refine q_openq (by assumption) (by omega) (by omega) ?_ (fun hk1 hd1 s1 h1 => ?_)
    | with_reducible refine q_shutS (by assumption) (by omega) (fun s1 e1 t1 => ?_) (fun s1 p1 d1 sc1 h1 hp1 => ?_)
    | with_reducible refine q_shut' (by assumption) (by first | exact nlo_ _ | exact nsb1_ (by omega) | exact nI_1 _ | exact n8_ _ | rfl | exact PR_a (by assumption) | exact PR_o (by assumption) | exact PR_d4 (by assumption) | assumption) (by first | exact nlo_ _ | exact nsb1_ (by omega) | exact nI_1 _ | exact n8_ _ | rfl | exact PR_a (by assumption) | exact PR_o (by assumption) | exact PR_d4 (by assumption) | assumption) (by first | exact nlo_ _ | exact nsb1_ (by omega) | exact nI_1 _ | exact n8_ _ | rfl | exact PR_a (by assumption) | exact PR_o (by assumption) | exact PR_d4 (by assumption) | assumption) (by first | exact nlo_ _ | exact nsb1_ (by omega) | exact nI_1 _ | exact n8_ _ | rfl | exact PR_a (by assumption) | exact PR_o (by assumption) | exact PR_d4 (by assumption) | assumption) (by omega) (by first | decide | omega) (by first | decide | omega) (fun hb1 s1 h1 _ => ?_)
    | with_reducible refine q_leaf' (by assumption) (by first | exact nlo_ _ | exact nsb1_ (by omega) | exact nI_1 _ | exact n8_ _ | rfl | exact PR_a (by assumption) | exact PR_o (by assumption) | exact PR_d4 (by assumption) | assumption) (by first | exact nlo_ _ | exact nsb1_ (by omega) | exact nI_1 _ | exact n8_ _ | rfl | exact PR_a (by assumption) | exact PR_o (by assumption) | exact PR_d4 (by assumption) | assumption) rfl (by omega) (by decide) (by first | decide | omega) (fun s1 h1 => ?_)
    | with_reducible refine q_leafp (by assumption) (PR_a (by assumption)) (by omega) (by first | exact nlo_ _ | exact nsb1_ (by omega) | exact nI_1 _ | exact n8_ _ | rfl | exact PR_a (by assumption) | exact PR_o (by assumption) | exact PR_d4 (by assumption) | assumption) (by first | exact nlo_ _ | exact nsb1_ (by omega) | exact nI_1 _ | exact n8_ _ | rfl | exact PR_a (by assumption) | exact PR_o (by assumption) | exact PR_d4 (by assumption) | assumption) rfl (by omega) (by decide) (by first | decide | omega) (fun s1 h1 => ?_)
    | with_reducible refine q_labels' (by assumption) (by omega) (by omega) (fun s1 os1 p1 n1 el1 h1 => ?_)
    | with_reducible refine q_tqy (by assumption) ?_
    | with_reducible refine q_tqn (by assumption) ?_
    | with_reducible refine q_30 (by assumption) (by omega) (fun s1 h1 => ?_)
    | rw [m_isD _ _ _ (PT_k h.1 _), bI_s]
    | with_reducible refine q_ite (fun hk1 => ?_) (fun hk0 => ?_)
    | contradiction
    | with_reducible exact absurd (And.intro (by assumption) (by assumption)) (by assumption)
    | (exfalso; omega)
    | simp only [hdi, zb_0, Bool.false_eq_true, Bool.true_eq_false, fun q => nk q 15 (by decide), gpT, List.cons_append, List.nil_append, show (0 : Int32) &&& 1 = 0 from rfl, show (1 : Int32) &&& 1 = 1 from rfl, show ¬ ((1 : Int32) = 0) by decide, show ¬ ((0 : Int32) = 1) by decide, if_true, if_false, eq_self_iff_true]
    | split
set_option maxRecDepth 8000 in
set_option maxHeartbeats 1000000 in
theorem g_20 (d x y z : Nat) (h : PR K V N lx s (gs, os, p, dp, sc, n)) (hg : gs.length + 10 ≤ 9000) (hs : sc.length < 70) (hp : p ≤ N) (hn : n + (N - p) + 10 ≤ 26000) (hd : dp ≤ 60) (hx : x < 2 ^ 26) (hy : y < 2 ^ 26) (hz : z < 2 ^ 26) : pq_ K V N lx (pg_20 K V N lx x y z (gs, os, p, dp, sc, n)) (mE (d + 8) 37 [vr_ (some 0), vi_ (nI 20), vi_ (nI x), vi_ (nI y), vi_ (nI z)] s) := by
  have t2 := h.1.2.1
  have nk : ∀ q c, c < 2 ^ 31 → (nI (K q) = (OfNat.ofNat c : Int32)) = (K q = c) := fun q c hc => neq1_ c (PT_k h.1 q) hc
  have nx : ∀ c, c < 2 ^ 31 → (nI x = (OfNat.ofNat c : Int32)) = (x = c) := fun c hc => neq1_ c (by omega) hc
  have hol := PO_len h.2.2.2.2.2
  rw [me_reachC]
  refine q_tk h ?_
  rw [if_neg (by decide), if_neg (by decide), if_neg (by decide), if_neg (by decide), if_neg (by decide), if_pos (by decide)]
  dsimp only [pg_20]
  repeat' first
    | with_reducible exact q_none
    | with_reducible exact q_ok (by assumption)
    | with_reducible exact q_okd (by assumption) (by omega)
    | with_reducible exact q_fl (by assumption)
    | with_reducible exact q_fl' (by assumption) (by assumption)
    | with_reducible exact q_okp (by assumption) (by omega) (PR_a (by assumption))
    | with_reducible refine q_goal' (by assumption) (by first | exact nlo_ _ | exact nsb1_ (by omega) | exact nI_1 _ | exact n8_ _ | rfl | exact PR_a (by assumption) | exact PR_o (by assumption) | exact PR_d4 (by assumption) | assumption) (by first | exact nlo_ _ | exact nsb1_ (by omega) | exact nI_1 _ | exact n8_ _ | rfl | exact PR_a (by assumption) | exact PR_o (by assumption) | exact PR_d4 (by assumption) | assumption) (by first | exact nlo_ _ | exact nsb1_ (by omega) | exact nI_1 _ | exact n8_ _ | rfl | exact PR_a (by assumption) | exact PR_o (by assumption) | exact PR_d4 (by assumption) | assumption) (by first | exact nlo_ _ | exact nsb1_ (by omega) | exact nI_1 _ | exact n8_ _ | rfl | exact PR_a (by assumption) | exact PR_o (by assumption) | exact PR_d4 (by assumption) | assumption) (by first | omega | (simp only [List.length_cons]; omega)) ⟨by first | decide | omega, by first | decide | omega, by first | decide | omega, by first | decide | omega⟩ (fun s1 h1 => ?_)
    | with_reducible refine q_goalp (by assumption) (PR_a (by assumption)) (by omega) (by first | exact nlo_ _ | exact nsb1_ (by omega) | exact nI_1 _ | exact n8_ _ | rfl | exact PR_a (by assumption) | exact PR_o (by assumption) | exact PR_d4 (by assumption) | assumption) (by first | exact nlo_ _ | exact nsb1_ (by omega) | exact nI_1 _ | exact n8_ _ | rfl | exact PR_a (by assumption) | exact PR_o (by assumption) | exact PR_d4 (by assumption) | assumption) (by first | exact nlo_ _ | exact nsb1_ (by omega) | exact nI_1 _ | exact n8_ _ | rfl | exact PR_a (by assumption) | exact PR_o (by assumption) | exact PR_d4 (by assumption) | assumption) (by first | exact nlo_ _ | exact nsb1_ (by omega) | exact nI_1 _ | exact n8_ _ | rfl | exact PR_a (by assumption) | exact PR_o (by assumption) | exact PR_d4 (by assumption) | assumption) (by first | omega | (simp only [List.length_cons]; omega)) ⟨by first | decide | omega, by first | decide | omega, by first | decide | omega, by first | decide | omega⟩ (fun s1 h1 => ?_)
    | with_reducible refine q_tk (by assumption) ?_
    | with_reducible refine q_tkp (by assumption) (PR_a (by assumption)) (by omega) (fun s1 h1 => ?_)
    | with_reducible refine q_takeq (by assumption) (by first | exact nlo_ _ | rfl) (by first | decide | omega) (by first | decide | omega) (fun hk1 s1 h1 => ?_) ?_
    | with_reducible refine q_take' (by assumption) (by first | exact nlo_ _ | rfl) (by first | decide | omega) (by first | decide | omega) (fun hk1 s1 h1 => ?_) (fun hk0 => ?_)
    | with_reducible refine q_takep (by assumption) (PR_a (by assumption)) (by omega) (by first | exact nlo_ _ | rfl) (by first | decide | omega) (by first | decide | omega) (fun hk1 s1 h1 => ?_) (fun hk0 s1 h1 => ?_)
    | with_reducible refine q_openp (by assumption) (PR_a (by assumption)) (by omega) (by omega) (by omega) (fun s1 h1 => ?_) (fun hk1 hd1 s1 h1 => ?_)
    | with_reducible refine q_deep (by assumption) (fun hd0 => ?_) (fun hd1 s1 h1 => ?_) (by omega)
    | with_reducible refine q_openq (by assumption) (by omega) (by omega) ?_ (fun hk1 hd1 s1 h1 => ?_)
    | with_reducible refine q_shutS (by assumption) (by omega) (fun s1 e1 t1 => ?_) (fun s1 p1 d1 sc1 h1 hp1 => ?_)
    | with_reducible refine q_shut' (by assumption) (by first | exact nlo_ _ | exact nsb1_ (by omega) | exact nI_1 _ | exact n8_ _ | rfl | exact PR_a (by assumption) | exact PR_o (by assumption) | exact PR_d4 (by assumption) | assumption) (by first | exact nlo_ _ | exact nsb1_ (by omega) | exact nI_1 _ | exact n8_ _ | rfl | exact PR_a (by assumption) | exact PR_o (by assumption) | exact PR_d4 (by assumption) | assumption) (by first | exact nlo_ _ | exact nsb1_ (by omega) | exact nI_1 _ | exact n8_ _ | rfl | exact PR_a (by assumption) | exact PR_o (by assumption) | exact PR_d4 (by assumption) | assumption) (by first | exact nlo_ _ | exact nsb1_ (by omega) | exact nI_1 _ | exact n8_ _ | rfl | exact PR_a (by assumption) | exact PR_o (by assumption) | exact PR_d4 (by assumption) | assumption) (by omega) (by first | decide | omega) (by first | decide | omega) (fun hb1 s1 h1 _ => ?_)
    | with_reducible refine q_leaf' (by assumption) (by first | exact nlo_ _ | exact nsb1_ (by omega) | exact nI_1 _ | exact n8_ _ | rfl | exact PR_a (by assumption) | exact PR_o (by assumption) | exact PR_d4 (by assumption) | assumption) (by first | exact nlo_ _ | exact nsb1_ (by omega) | exact nI_1 _ | exact n8_ _ | rfl | exact PR_a (by assumption) | exact PR_o (by assumption) | exact PR_d4 (by assumption) | assumption) rfl (by omega) (by decide) (by first | decide | omega) (fun s1 h1 => ?_)
    | with_reducible refine q_leafp (by assumption) (PR_a (by assumption)) (by omega) (by first | exact nlo_ _ | exact nsb1_ (by omega) | exact nI_1 _ | exact n8_ _ | rfl | exact PR_a (by assumption) | exact PR_o (by assumption) | exact PR_d4 (by assumption) | assumption) (by first | exact nlo_ _ | exact nsb1_ (by omega) | exact nI_1 _ | exact n8_ _ | rfl | exact PR_a (by assumption) | exact PR_o (by assumption) | exact PR_d4 (by assumption) | assumption) rfl (by omega) (by decide) (by first | decide | omega) (fun s1 h1 => ?_)
    | with_reducible refine q_labels' (by assumption) (by omega) (by omega) (fun s1 os1 p1 n1 el1 h1 => ?_)
    | with_reducible refine q_tqy (by assumption) ?_
    | with_reducible refine q_tqn (by assumption) ?_
    | with_reducible refine q_30 (by assumption) (by omega) (fun s1 h1 => ?_)
    | rw [el1]
    | with_reducible refine q_ite (fun hk1 => ?_) (fun hk0 => ?_)
    | contradiction
    | with_reducible exact absurd (And.intro (by assumption) (by assumption)) (by assumption)
    | (exfalso; omega)
    | simp only [gpT, List.cons_append, List.nil_append, show (0 : Int32) &&& 1 = 0 from rfl, show (1 : Int32) &&& 1 = 1 from rfl, show ¬ ((1 : Int32) = 0) by decide, show ¬ ((0 : Int32) = 1) by decide, if_true, if_false, eq_self_iff_true]
    | split
set_option maxRecDepth 8000 in
set_option maxHeartbeats 1000000 in
theorem g_21 (d x y z : Nat) (h : PR K V N lx s (gs, os, p, dp, sc, n)) (hg : gs.length + 10 ≤ 9000) (hs : sc.length < 70) (hp : p ≤ N) (hn : n + (N - p) + 10 ≤ 26000) (hd : dp ≤ 60) (hx : x < 2 ^ 26) (hy : y < 2 ^ 26) (hz : z < 2 ^ 26) : pq_ K V N lx (pg_21 K V N lx x y z (gs, os, p, dp, sc, n)) (mE (d + 8) 37 [vr_ (some 0), vi_ (nI 21), vi_ (nI x), vi_ (nI y), vi_ (nI z)] s) := by
  have t2 := h.1.2.1
  have nk : ∀ q c, c < 2 ^ 31 → (nI (K q) = (OfNat.ofNat c : Int32)) = (K q = c) := fun q c hc => neq1_ c (PT_k h.1 q) hc
  have nx : ∀ c, c < 2 ^ 31 → (nI x = (OfNat.ofNat c : Int32)) = (x = c) := fun c hc => neq1_ c (by omega) hc
  have hol := PO_len h.2.2.2.2.2
  rw [me_reachC]
  refine q_tk h ?_
  rw [if_neg (by decide), if_neg (by decide), if_neg (by decide), if_neg (by decide), if_neg (by decide), if_neg (by decide), if_pos (by decide)]
  dsimp only [pg_21]
  repeat' first
    | with_reducible exact q_none
    | with_reducible exact q_ok (by assumption)
    | with_reducible exact q_okd (by assumption) (by omega)
    | with_reducible exact q_fl (by assumption)
    | with_reducible exact q_fl' (by assumption) (by assumption)
    | with_reducible exact q_okp (by assumption) (by omega) (PR_a (by assumption))
    | with_reducible refine q_goal' (by assumption) (by first | exact nlo_ _ | exact nsb1_ (by omega) | exact nI_1 _ | exact n8_ _ | rfl | exact PR_a (by assumption) | exact PR_o (by assumption) | exact PR_d4 (by assumption) | assumption) (by first | exact nlo_ _ | exact nsb1_ (by omega) | exact nI_1 _ | exact n8_ _ | rfl | exact PR_a (by assumption) | exact PR_o (by assumption) | exact PR_d4 (by assumption) | assumption) (by first | exact nlo_ _ | exact nsb1_ (by omega) | exact nI_1 _ | exact n8_ _ | rfl | exact PR_a (by assumption) | exact PR_o (by assumption) | exact PR_d4 (by assumption) | assumption) (by first | exact nlo_ _ | exact nsb1_ (by omega) | exact nI_1 _ | exact n8_ _ | rfl | exact PR_a (by assumption) | exact PR_o (by assumption) | exact PR_d4 (by assumption) | assumption) (by first | omega | (simp only [List.length_cons]; omega)) ⟨by first | decide | omega, by first | decide | omega, by first | decide | omega, by first | decide | omega⟩ (fun s1 h1 => ?_)
    | with_reducible refine q_goalp (by assumption) (PR_a (by assumption)) (by omega) (by first | exact nlo_ _ | exact nsb1_ (by omega) | exact nI_1 _ | exact n8_ _ | rfl | exact PR_a (by assumption) | exact PR_o (by assumption) | exact PR_d4 (by assumption) | assumption) (by first | exact nlo_ _ | exact nsb1_ (by omega) | exact nI_1 _ | exact n8_ _ | rfl | exact PR_a (by assumption) | exact PR_o (by assumption) | exact PR_d4 (by assumption) | assumption) (by first | exact nlo_ _ | exact nsb1_ (by omega) | exact nI_1 _ | exact n8_ _ | rfl | exact PR_a (by assumption) | exact PR_o (by assumption) | exact PR_d4 (by assumption) | assumption) (by first | exact nlo_ _ | exact nsb1_ (by omega) | exact nI_1 _ | exact n8_ _ | rfl | exact PR_a (by assumption) | exact PR_o (by assumption) | exact PR_d4 (by assumption) | assumption) (by first | omega | (simp only [List.length_cons]; omega)) ⟨by first | decide | omega, by first | decide | omega, by first | decide | omega, by first | decide | omega⟩ (fun s1 h1 => ?_)
    | with_reducible refine q_tk (by assumption) ?_
    | with_reducible refine q_tkp (by assumption) (PR_a (by assumption)) (by omega) (fun s1 h1 => ?_)
    | with_reducible refine q_takeq (by assumption) (by first | exact nlo_ _ | rfl) (by first | decide | omega) (by first | decide | omega) (fun hk1 s1 h1 => ?_) ?_
    | with_reducible refine q_take' (by assumption) (by first | exact nlo_ _ | rfl) (by first | decide | omega) (by first | decide | omega) (fun hk1 s1 h1 => ?_) (fun hk0 => ?_)
    | with_reducible refine q_takep (by assumption) (PR_a (by assumption)) (by omega) (by first | exact nlo_ _ | rfl) (by first | decide | omega) (by first | decide | omega) (fun hk1 s1 h1 => ?_) (fun hk0 s1 h1 => ?_)
    | with_reducible refine q_openp (by assumption) (PR_a (by assumption)) (by omega) (by omega) (by omega) (fun s1 h1 => ?_) (fun hk1 hd1 s1 h1 => ?_)
    | with_reducible refine q_deep (by assumption) (fun hd0 => ?_) (fun hd1 s1 h1 => ?_) (by omega)
    | with_reducible refine q_openq (by assumption) (by omega) (by omega) ?_ (fun hk1 hd1 s1 h1 => ?_)
    | with_reducible refine q_shutS (by assumption) (by omega) (fun s1 e1 t1 => ?_) (fun s1 p1 d1 sc1 h1 hp1 => ?_)
    | with_reducible refine q_shut' (by assumption) (by first | exact nlo_ _ | exact nsb1_ (by omega) | exact nI_1 _ | exact n8_ _ | rfl | exact PR_a (by assumption) | exact PR_o (by assumption) | exact PR_d4 (by assumption) | assumption) (by first | exact nlo_ _ | exact nsb1_ (by omega) | exact nI_1 _ | exact n8_ _ | rfl | exact PR_a (by assumption) | exact PR_o (by assumption) | exact PR_d4 (by assumption) | assumption) (by first | exact nlo_ _ | exact nsb1_ (by omega) | exact nI_1 _ | exact n8_ _ | rfl | exact PR_a (by assumption) | exact PR_o (by assumption) | exact PR_d4 (by assumption) | assumption) (by first | exact nlo_ _ | exact nsb1_ (by omega) | exact nI_1 _ | exact n8_ _ | rfl | exact PR_a (by assumption) | exact PR_o (by assumption) | exact PR_d4 (by assumption) | assumption) (by omega) (by first | decide | omega) (by first | decide | omega) (fun hb1 s1 h1 _ => ?_)
    | with_reducible refine q_leaf' (by assumption) (by first | exact nlo_ _ | exact nsb1_ (by omega) | exact nI_1 _ | exact n8_ _ | rfl | exact PR_a (by assumption) | exact PR_o (by assumption) | exact PR_d4 (by assumption) | assumption) (by first | exact nlo_ _ | exact nsb1_ (by omega) | exact nI_1 _ | exact n8_ _ | rfl | exact PR_a (by assumption) | exact PR_o (by assumption) | exact PR_d4 (by assumption) | assumption) rfl (by omega) (by decide) (by first | decide | omega) (fun s1 h1 => ?_)
    | with_reducible refine q_leafp (by assumption) (PR_a (by assumption)) (by omega) (by first | exact nlo_ _ | exact nsb1_ (by omega) | exact nI_1 _ | exact n8_ _ | rfl | exact PR_a (by assumption) | exact PR_o (by assumption) | exact PR_d4 (by assumption) | assumption) (by first | exact nlo_ _ | exact nsb1_ (by omega) | exact nI_1 _ | exact n8_ _ | rfl | exact PR_a (by assumption) | exact PR_o (by assumption) | exact PR_d4 (by assumption) | assumption) rfl (by omega) (by decide) (by first | decide | omega) (fun s1 h1 => ?_)
    | with_reducible refine q_labels' (by assumption) (by omega) (by omega) (fun s1 os1 p1 n1 el1 h1 => ?_)
    | with_reducible refine q_tqy (by assumption) ?_
    | with_reducible refine q_tqn (by assumption) ?_
    | with_reducible refine q_30 (by assumption) (by omega) (fun s1 h1 => ?_)
    | rw [mj_reachC_342]
    | with_reducible refine q_ite (fun hk1 => ?_) (fun hk0 => ?_)
    | contradiction
    | with_reducible exact absurd (And.intro (by assumption) (by assumption)) (by assumption)
    | (exfalso; omega)
    | simp only [fun q => nk q 15 (by decide), gpT, List.cons_append, List.nil_append, show (0 : Int32) &&& 1 = 0 from rfl, show (1 : Int32) &&& 1 = 1 from rfl, show ¬ ((1 : Int32) = 0) by decide, show ¬ ((0 : Int32) = 1) by decide, if_true, if_false, eq_self_iff_true]
    | split
set_option maxRecDepth 8000 in
set_option maxHeartbeats 1000000 in
theorem g_24 (d x y z : Nat) (h : PR K V N lx s (gs, os, p, dp, sc, n)) (hg : gs.length + 10 ≤ 9000) (hs : sc.length < 70) (hp : p ≤ N) (hn : n + (N - p) + 10 ≤ 26000) (hd : dp ≤ 60) (hx : x < 2 ^ 26) (hy : y < 2 ^ 26) (hz : z < 2 ^ 26) : pq_ K V N lx (pg_24 K V N lx x y z (gs, os, p, dp, sc, n)) (mE (d + 8) 37 [vr_ (some 0), vi_ (nI 24), vi_ (nI x), vi_ (nI y), vi_ (nI z)] s) := by
  have t2 := h.1.2.1
  have nk : ∀ q c, c < 2 ^ 31 → (nI (K q) = (OfNat.ofNat c : Int32)) = (K q = c) := fun q c hc => neq1_ c (PT_k h.1 q) hc
  have nx : ∀ c, c < 2 ^ 31 → (nI x = (OfNat.ofNat c : Int32)) = (x = c) := fun c hc => neq1_ c (by omega) hc
  have hol := PO_len h.2.2.2.2.2
  rw [me_reachC]
  refine q_tk h ?_
  rw [if_neg (by decide), if_neg (by decide), if_neg (by decide), if_neg (by decide), if_neg (by decide), if_neg (by decide), if_neg (by decide), if_pos (by decide)]
  dsimp only [pg_24]
  repeat' first
    | with_reducible exact q_none
    | with_reducible exact q_ok (by assumption)
    | with_reducible exact q_okd (by assumption) (by omega)
    | with_reducible exact q_fl (by assumption)
    | with_reducible exact q_fl' (by assumption) (by assumption)
    | with_reducible exact q_okp (by assumption) (by omega) (PR_a (by assumption))
    | with_reducible refine q_goal' (by assumption) (by first | exact nlo_ _ | exact nsb1_ (by omega) | exact nI_1 _ | exact n8_ _ | rfl | exact PR_a (by assumption) | exact PR_o (by assumption) | exact PR_d4 (by assumption) | assumption) (by first | exact nlo_ _ | exact nsb1_ (by omega) | exact nI_1 _ | exact n8_ _ | rfl | exact PR_a (by assumption) | exact PR_o (by assumption) | exact PR_d4 (by assumption) | assumption) (by first | exact nlo_ _ | exact nsb1_ (by omega) | exact nI_1 _ | exact n8_ _ | rfl | exact PR_a (by assumption) | exact PR_o (by assumption) | exact PR_d4 (by assumption) | assumption) (by first | exact nlo_ _ | exact nsb1_ (by omega) | exact nI_1 _ | exact n8_ _ | rfl | exact PR_a (by assumption) | exact PR_o (by assumption) | exact PR_d4 (by assumption) | assumption) (by first | omega | (simp only [List.length_cons]; omega)) ⟨by first | decide | omega, by first | decide | omega, by first | decide | omega, by first | decide | omega⟩ (fun s1 h1 => ?_)
    | with_reducible refine q_goalp (by assumption) (PR_a (by assumption)) (by omega) (by first | exact nlo_ _ | exact nsb1_ (by omega) | exact nI_1 _ | exact n8_ _ | rfl | exact PR_a (by assumption) | exact PR_o (by assumption) | exact PR_d4 (by assumption) | assumption) (by first | exact nlo_ _ | exact nsb1_ (by omega) | exact nI_1 _ | exact n8_ _ | rfl | exact PR_a (by assumption) | exact PR_o (by assumption) | exact PR_d4 (by assumption) | assumption) (by first | exact nlo_ _ | exact nsb1_ (by omega) | exact nI_1 _ | exact n8_ _ | rfl | exact PR_a (by assumption) | exact PR_o (by assumption) | exact PR_d4 (by assumption) | assumption) (by first | exact nlo_ _ | exact nsb1_ (by omega) | exact nI_1 _ | exact n8_ _ | rfl | exact PR_a (by assumption) | exact PR_o (by assumption) | exact PR_d4 (by assumption) | assumption) (by first | omega | (simp only [List.length_cons]; omega)) ⟨by first | decide | omega, by first | decide | omega, by first | decide | omega, by first | decide | omega⟩ (fun s1 h1 => ?_)
    | with_reducible refine q_tk (by assumption) ?_
    | with_reducible refine q_tkp (by assumption) (PR_a (by assumption)) (by omega) (fun s1 h1 => ?_)
    | with_reducible refine q_takeq (by assumption) (by first | exact nlo_ _ | rfl) (by first | decide | omega) (by first | decide | omega) (fun hk1 s1 h1 => ?_) ?_
    | with_reducible refine q_take' (by assumption) (by first | exact nlo_ _ | rfl) (by first | decide | omega) (by first | decide | omega) (fun hk1 s1 h1 => ?_) (fun hk0 => ?_)
    | with_reducible refine q_takep (by assumption) (PR_a (by assumption)) (by omega) (by first | exact nlo_ _ | rfl) (by first | decide | omega) (by first | decide | omega) (fun hk1 s1 h1 => ?_) (fun hk0 s1 h1 => ?_)
    | with_reducible refine q_openp (by assumption) (PR_a (by assumption)) (by omega) (by omega) (by omega) (fun s1 h1 => ?_) (fun hk1 hd1 s1 h1 => ?_)
    | with_reducible refine q_deep (by assumption) (fun hd0 => ?_) (fun hd1 s1 h1 => ?_) (by omega)
    | with_reducible refine q_openq (by assumption) (by omega) (by omega) ?_ (fun hk1 hd1 s1 h1 => ?_)
    | with_reducible refine q_shutS (by assumption) (by omega) (fun s1 e1 t1 => ?_) (fun s1 p1 d1 sc1 h1 hp1 => ?_)
    | with_reducible refine q_shut' (by assumption) (by first | exact nlo_ _ | exact nsb1_ (by omega) | exact nI_1 _ | exact n8_ _ | rfl | exact PR_a (by assumption) | exact PR_o (by assumption) | exact PR_d4 (by assumption) | assumption) (by first | exact nlo_ _ | exact nsb1_ (by omega) | exact nI_1 _ | exact n8_ _ | rfl | exact PR_a (by assumption) | exact PR_o (by assumption) | exact PR_d4 (by assumption) | assumption) (by first | exact nlo_ _ | exact nsb1_ (by omega) | exact nI_1 _ | exact n8_ _ | rfl | exact PR_a (by assumption) | exact PR_o (by assumption) | exact PR_d4 (by assumption) | assumption) (by first | exact nlo_ _ | exact nsb1_ (by omega) | exact nI_1 _ | exact n8_ _ | rfl | exact PR_a (by assumption) | exact PR_o (by assumption) | exact PR_d4 (by assumption) | assumption) (by omega) (by first | decide | omega) (by first | decide | omega) (fun hb1 s1 h1 _ => ?_)
    | with_reducible refine q_leaf' (by assumption) (by first | exact nlo_ _ | exact nsb1_ (by omega) | exact nI_1 _ | exact n8_ _ | rfl | exact PR_a (by assumption) | exact PR_o (by assumption) | exact PR_d4 (by assumption) | assumption) (by first | exact nlo_ _ | exact nsb1_ (by omega) | exact nI_1 _ | exact n8_ _ | rfl | exact PR_a (by assumption) | exact PR_o (by assumption) | exact PR_d4 (by assumption) | assumption) rfl (by omega) (by decide) (by first | decide | omega) (fun s1 h1 => ?_)
    | with_reducible refine q_leafp (by assumption) (PR_a (by assumption)) (by omega) (by first | exact nlo_ _ | exact nsb1_ (by omega) | exact nI_1 _ | exact n8_ _ | rfl | exact PR_a (by assumption) | exact PR_o (by assumption) | exact PR_d4 (by assumption) | assumption) (by first | exact nlo_ _ | exact nsb1_ (by omega) | exact nI_1 _ | exact n8_ _ | rfl | exact PR_a (by assumption) | exact PR_o (by assumption) | exact PR_d4 (by assumption) | assumption) rfl (by omega) (by decide) (by first | decide | omega) (fun s1 h1 => ?_)
    | with_reducible refine q_labels' (by assumption) (by omega) (by omega) (fun s1 os1 p1 n1 el1 h1 => ?_)
    | with_reducible refine q_tqy (by assumption) ?_
    | with_reducible refine q_tqn (by assumption) ?_
    | with_reducible refine q_30 (by assumption) (by omega) (fun s1 h1 => ?_)
    | rw [mj_reachC_342]
    | with_reducible refine q_ite (fun hk1 => ?_) (fun hk0 => ?_)
    | contradiction
    | with_reducible exact absurd (And.intro (by assumption) (by assumption)) (by assumption)
    | (exfalso; omega)
    | simp only [fun q => nk q 15 (by decide), gpT, List.cons_append, List.nil_append, show (0 : Int32) &&& 1 = 0 from rfl, show (1 : Int32) &&& 1 = 1 from rfl, show ¬ ((1 : Int32) = 0) by decide, show ¬ ((0 : Int32) = 1) by decide, if_true, if_false, eq_self_iff_true]
    | split
set_option maxRecDepth 8000 in
set_option maxHeartbeats 1000000 in
theorem g_22 (d x y z : Nat) (h : PR K V N lx s (gs, os, p, dp, sc, n)) (hg : gs.length + 10 ≤ 9000) (hs : sc.length < 70) (hp : p ≤ N) (hn : n + (N - p) + 10 ≤ 26000) (hd : dp ≤ 60) (hx : x < 2 ^ 26) (hy : y < 2 ^ 26) (hz : z < 2 ^ 26) : pq_ K V N lx (pg_22 K V N lx x y z (gs, os, p, dp, sc, n)) (mE (d + 8) 37 [vr_ (some 0), vi_ (nI 22), vi_ (nI x), vi_ (nI y), vi_ (nI z)] s) := by
  have t2 := h.1.2.1
  have nk : ∀ q c, c < 2 ^ 31 → (nI (K q) = (OfNat.ofNat c : Int32)) = (K q = c) := fun q c hc => neq1_ c (PT_k h.1 q) hc
  have nx : ∀ c, c < 2 ^ 31 → (nI x = (OfNat.ofNat c : Int32)) = (x = c) := fun c hc => neq1_ c (by omega) hc
  have hol := PO_len h.2.2.2.2.2
  rw [me_reachC]
  refine q_tk h ?_
  rw [if_neg (by decide), if_neg (by decide), if_neg (by decide), if_neg (by decide), if_neg (by decide), if_neg (by decide), if_neg (by decide), if_neg (by decide), if_pos (by decide)]
  dsimp only [pg_22]
  repeat' first
    | with_reducible exact q_none
    | with_reducible exact q_ok (by assumption)
    | with_reducible exact q_okd (by assumption) (by omega)
    | with_reducible exact q_fl (by assumption)
    | with_reducible exact q_fl' (by assumption) (by assumption)
    | with_reducible exact q_okp (by assumption) (by omega) (PR_a (by assumption))
    | with_reducible refine q_goal' (by assumption) (by first | exact nlo_ _ | exact nsb1_ (by omega) | exact nI_1 _ | exact n8_ _ | rfl | exact PR_a (by assumption) | exact PR_o (by assumption) | exact PR_d4 (by assumption) | assumption) (by first | exact nlo_ _ | exact nsb1_ (by omega) | exact nI_1 _ | exact n8_ _ | rfl | exact PR_a (by assumption) | exact PR_o (by assumption) | exact PR_d4 (by assumption) | assumption) (by first | exact nlo_ _ | exact nsb1_ (by omega) | exact nI_1 _ | exact n8_ _ | rfl | exact PR_a (by assumption) | exact PR_o (by assumption) | exact PR_d4 (by assumption) | assumption) (by first | exact nlo_ _ | exact nsb1_ (by omega) | exact nI_1 _ | exact n8_ _ | rfl | exact PR_a (by assumption) | exact PR_o (by assumption) | exact PR_d4 (by assumption) | assumption) (by first | omega | (simp only [List.length_cons]; omega)) ⟨by first | decide | omega, by first | decide | omega, by first | decide | omega, by first | decide | omega⟩ (fun s1 h1 => ?_)
    | with_reducible refine q_goalp (by assumption) (PR_a (by assumption)) (by omega) (by first | exact nlo_ _ | exact nsb1_ (by omega) | exact nI_1 _ | exact n8_ _ | rfl | exact PR_a (by assumption) | exact PR_o (by assumption) | exact PR_d4 (by assumption) | assumption) (by first | exact nlo_ _ | exact nsb1_ (by omega) | exact nI_1 _ | exact n8_ _ | rfl | exact PR_a (by assumption) | exact PR_o (by assumption) | exact PR_d4 (by assumption) | assumption) (by first | exact nlo_ _ | exact nsb1_ (by omega) | exact nI_1 _ | exact n8_ _ | rfl | exact PR_a (by assumption) | exact PR_o (by assumption) | exact PR_d4 (by assumption) | assumption) (by first | exact nlo_ _ | exact nsb1_ (by omega) | exact nI_1 _ | exact n8_ _ | rfl | exact PR_a (by assumption) | exact PR_o (by assumption) | exact PR_d4 (by assumption) | assumption) (by first | omega | (simp only [List.length_cons]; omega)) ⟨by first | decide | omega, by first | decide | omega, by first | decide | omega, by first | decide | omega⟩ (fun s1 h1 => ?_)
    | with_reducible refine q_tk (by assumption) ?_
    | with_reducible refine q_tkp (by assumption) (PR_a (by assumption)) (by omega) (fun s1 h1 => ?_)
    | with_reducible refine q_takeq (by assumption) (by first | exact nlo_ _ | rfl) (by first | decide | omega) (by first | decide | omega) (fun hk1 s1 h1 => ?_) ?_
    | with_reducible refine q_take' (by assumption) (by first | exact nlo_ _ | rfl) (by first | decide | omega) (by first | decide | omega) (fun hk1 s1 h1 => ?_) (fun hk0 => ?_)
    | with_reducible refine q_takep (by assumption) (PR_a (by assumption)) (by omega) (by first | exact nlo_ _ | rfl) (by first | decide | omega) (by first | decide | omega) (fun hk1 s1 h1 => ?_) (fun hk0 s1 h1 => ?_)
    | with_reducible refine q_openp (by assumption) (PR_a (by assumption)) (by omega) (by omega) (by omega) (fun s1 h1 => ?_) (fun hk1 hd1 s1 h1 => ?_)
    | with_reducible refine q_deep (by assumption) (fun hd0 => ?_) (fun hd1 s1 h1 => ?_) (by omega)
    | with_reducible refine q_openq (by assumption) (by omega) (by omega) ?_ (fun hk1 hd1 s1 h1 => ?_)
    | with_reducible refine q_shutS (by assumption) (by omega) (fun s1 e1 t1 => ?_) (fun s1 p1 d1 sc1 h1 hp1 => ?_)
    | with_reducible refine q_shut' (by assumption) (by first | exact nlo_ _ | exact nsb1_ (by omega) | exact nI_1 _ | exact n8_ _ | rfl | exact PR_a (by assumption) | exact PR_o (by assumption) | exact PR_d4 (by assumption) | assumption) (by first | exact nlo_ _ | exact nsb1_ (by omega) | exact nI_1 _ | exact n8_ _ | rfl | exact PR_a (by assumption) | exact PR_o (by assumption) | exact PR_d4 (by assumption) | assumption) (by first | exact nlo_ _ | exact nsb1_ (by omega) | exact nI_1 _ | exact n8_ _ | rfl | exact PR_a (by assumption) | exact PR_o (by assumption) | exact PR_d4 (by assumption) | assumption) (by first | exact nlo_ _ | exact nsb1_ (by omega) | exact nI_1 _ | exact n8_ _ | rfl | exact PR_a (by assumption) | exact PR_o (by assumption) | exact PR_d4 (by assumption) | assumption) (by omega) (by first | decide | omega) (by first | decide | omega) (fun hb1 s1 h1 _ => ?_)
    | with_reducible refine q_leaf' (by assumption) (by first | exact nlo_ _ | exact nsb1_ (by omega) | exact nI_1 _ | exact n8_ _ | rfl | exact PR_a (by assumption) | exact PR_o (by assumption) | exact PR_d4 (by assumption) | assumption) (by first | exact nlo_ _ | exact nsb1_ (by omega) | exact nI_1 _ | exact n8_ _ | rfl | exact PR_a (by assumption) | exact PR_o (by assumption) | exact PR_d4 (by assumption) | assumption) rfl (by omega) (by decide) (by first | decide | omega) (fun s1 h1 => ?_)
    | with_reducible refine q_leafp (by assumption) (PR_a (by assumption)) (by omega) (by first | exact nlo_ _ | exact nsb1_ (by omega) | exact nI_1 _ | exact n8_ _ | rfl | exact PR_a (by assumption) | exact PR_o (by assumption) | exact PR_d4 (by assumption) | assumption) (by first | exact nlo_ _ | exact nsb1_ (by omega) | exact nI_1 _ | exact n8_ _ | rfl | exact PR_a (by assumption) | exact PR_o (by assumption) | exact PR_d4 (by assumption) | assumption) rfl (by omega) (by decide) (by first | decide | omega) (fun s1 h1 => ?_)
    | with_reducible refine q_labels' (by assumption) (by omega) (by omega) (fun s1 os1 p1 n1 el1 h1 => ?_)
    | with_reducible refine q_tqy (by assumption) ?_
    | with_reducible refine q_tqn (by assumption) ?_
    | with_reducible refine q_30 (by assumption) (by omega) (fun s1 h1 => ?_)
    | with_reducible refine q_ite (fun hk1 => ?_) (fun hk0 => ?_)
    | contradiction
    | with_reducible exact absurd (And.intro (by assumption) (by assumption)) (by assumption)
    | (exfalso; omega)
    | simp only [gpT, List.cons_append, List.nil_append, show (0 : Int32) &&& 1 = 0 from rfl, show (1 : Int32) &&& 1 = 1 from rfl, show ¬ ((1 : Int32) = 0) by decide, show ¬ ((0 : Int32) = 1) by decide, if_true, if_false, eq_self_iff_true]
    | split
set_option maxRecDepth 8000 in
set_option maxHeartbeats 1000000 in
theorem g_23 (d x y z : Nat) (h : PR K V N lx s (gs, os, p, dp, sc, n)) (hg : gs.length + 10 ≤ 9000) (hs : sc.length < 70) (hp : p ≤ N) (hn : n + (N - p) + 10 ≤ 26000) (hd : dp ≤ 60) (hx : x < 2 ^ 26) (hy : y < 2 ^ 26) (hz : z < 2 ^ 26) : pq_ K V N lx (pg_23 K V N lx x y z (gs, os, p, dp, sc, n)) (mE (d + 8) 37 [vr_ (some 0), vi_ (nI 23), vi_ (nI x), vi_ (nI y), vi_ (nI z)] s) := by
  have t2 := h.1.2.1
  have nk : ∀ q c, c < 2 ^ 31 → (nI (K q) = (OfNat.ofNat c : Int32)) = (K q = c) := fun q c hc => neq1_ c (PT_k h.1 q) hc
  have nx : ∀ c, c < 2 ^ 31 → (nI x = (OfNat.ofNat c : Int32)) = (x = c) := fun c hc => neq1_ c (by omega) hc
  have hol := PO_len h.2.2.2.2.2
  rw [me_reachC]
  refine q_tk h ?_
  rw [if_neg (by decide), if_neg (by decide), if_neg (by decide), if_neg (by decide), if_neg (by decide), if_neg (by decide), if_neg (by decide), if_neg (by decide), if_neg (by decide), if_pos (by decide)]
  dsimp only [pg_23]
  repeat' first
    | with_reducible exact q_none
    | with_reducible exact q_ok (by assumption)
    | with_reducible exact q_okd (by assumption) (by omega)
    | with_reducible exact q_fl (by assumption)
    | with_reducible exact q_fl' (by assumption) (by assumption)
    | with_reducible exact q_okp (by assumption) (by omega) (PR_a (by assumption))
    | with_reducible refine q_goal' (by assumption) (by first | exact nlo_ _ | exact nsb1_ (by omega) | exact nI_1 _ | exact n8_ _ | rfl | exact PR_a (by assumption) | exact PR_o (by assumption) | exact PR_d4 (by assumption) | assumption) (by first | exact nlo_ _ | exact nsb1_ (by omega) | exact nI_1 _ | exact n8_ _ | rfl | exact PR_a (by assumption) | exact PR_o (by assumption) | exact PR_d4 (by assumption) | assumption) (by first | exact nlo_ _ | exact nsb1_ (by omega) | exact nI_1 _ | exact n8_ _ | rfl | exact PR_a (by assumption) | exact PR_o (by assumption) | exact PR_d4 (by assumption) | assumption) (by first | exact nlo_ _ | exact nsb1_ (by omega) | exact nI_1 _ | exact n8_ _ | rfl | exact PR_a (by assumption) | exact PR_o (by assumption) | exact PR_d4 (by assumption) | assumption) (by first | omega | (simp only [List.length_cons]; omega)) ⟨by first | decide | omega, by first | decide | omega, by first | decide | omega, by first | decide | omega⟩ (fun s1 h1 => ?_)
    | with_reducible refine q_goalp (by assumption) (PR_a (by assumption)) (by omega) (by first | exact nlo_ _ | exact nsb1_ (by omega) | exact nI_1 _ | exact n8_ _ | rfl | exact PR_a (by assumption) | exact PR_o (by assumption) | exact PR_d4 (by assumption) | assumption) (by first | exact nlo_ _ | exact nsb1_ (by omega) | exact nI_1 _ | exact n8_ _ | rfl | exact PR_a (by assumption) | exact PR_o (by assumption) | exact PR_d4 (by assumption) | assumption) (by first | exact nlo_ _ | exact nsb1_ (by omega) | exact nI_1 _ | exact n8_ _ | rfl | exact PR_a (by assumption) | exact PR_o (by assumption) | exact PR_d4 (by assumption) | assumption) (by first | exact nlo_ _ | exact nsb1_ (by omega) | exact nI_1 _ | exact n8_ _ | rfl | exact PR_a (by assumption) | exact PR_o (by assumption) | exact PR_d4 (by assumption) | assumption) (by first | omega | (simp only [List.length_cons]; omega)) ⟨by first | decide | omega, by first | decide | omega, by first | decide | omega, by first | decide | omega⟩ (fun s1 h1 => ?_)
    | with_reducible refine q_tk (by assumption) ?_
    | with_reducible refine q_tkp (by assumption) (PR_a (by assumption)) (by omega) (fun s1 h1 => ?_)
    | with_reducible refine q_takeq (by assumption) (by first | exact nlo_ _ | rfl) (by first | decide | omega) (by first | decide | omega) (fun hk1 s1 h1 => ?_) ?_
    | with_reducible refine q_take' (by assumption) (by first | exact nlo_ _ | rfl) (by first | decide | omega) (by first | decide | omega) (fun hk1 s1 h1 => ?_) (fun hk0 => ?_)
    | with_reducible refine q_takep (by assumption) (PR_a (by assumption)) (by omega) (by first | exact nlo_ _ | rfl) (by first | decide | omega) (by first | decide | omega) (fun hk1 s1 h1 => ?_) (fun hk0 s1 h1 => ?_)
    | with_reducible refine q_openp (by assumption) (PR_a (by assumption)) (by omega) (by omega) (by omega) (fun s1 h1 => ?_) (fun hk1 hd1 s1 h1 => ?_)
    | with_reducible refine q_deep (by assumption) (fun hd0 => ?_) (fun hd1 s1 h1 => ?_) (by omega)
    | with_reducible refine q_openq (by assumption) (by omega) (by omega) ?_ (fun hk1 hd1 s1 h1 => ?_)
    | with_reducible refine q_shutS (by assumption) (by omega) (fun s1 e1 t1 => ?_) (fun s1 p1 d1 sc1 h1 hp1 => ?_)
    | with_reducible refine q_shut' (by assumption) (by first | exact nlo_ _ | exact nsb1_ (by omega) | exact nI_1 _ | exact n8_ _ | rfl | exact PR_a (by assumption) | exact PR_o (by assumption) | exact PR_d4 (by assumption) | assumption) (by first | exact nlo_ _ | exact nsb1_ (by omega) | exact nI_1 _ | exact n8_ _ | rfl | exact PR_a (by assumption) | exact PR_o (by assumption) | exact PR_d4 (by assumption) | assumption) (by first | exact nlo_ _ | exact nsb1_ (by omega) | exact nI_1 _ | exact n8_ _ | rfl | exact PR_a (by assumption) | exact PR_o (by assumption) | exact PR_d4 (by assumption) | assumption) (by first | exact nlo_ _ | exact nsb1_ (by omega) | exact nI_1 _ | exact n8_ _ | rfl | exact PR_a (by assumption) | exact PR_o (by assumption) | exact PR_d4 (by assumption) | assumption) (by omega) (by first | decide | omega) (by first | decide | omega) (fun hb1 s1 h1 _ => ?_)
    | with_reducible refine q_leaf' (by assumption) (by first | exact nlo_ _ | exact nsb1_ (by omega) | exact nI_1 _ | exact n8_ _ | rfl | exact PR_a (by assumption) | exact PR_o (by assumption) | exact PR_d4 (by assumption) | assumption) (by first | exact nlo_ _ | exact nsb1_ (by omega) | exact nI_1 _ | exact n8_ _ | rfl | exact PR_a (by assumption) | exact PR_o (by assumption) | exact PR_d4 (by assumption) | assumption) rfl (by omega) (by decide) (by first | decide | omega) (fun s1 h1 => ?_)
    | with_reducible refine q_leafp (by assumption) (PR_a (by assumption)) (by omega) (by first | exact nlo_ _ | exact nsb1_ (by omega) | exact nI_1 _ | exact n8_ _ | rfl | exact PR_a (by assumption) | exact PR_o (by assumption) | exact PR_d4 (by assumption) | assumption) (by first | exact nlo_ _ | exact nsb1_ (by omega) | exact nI_1 _ | exact n8_ _ | rfl | exact PR_a (by assumption) | exact PR_o (by assumption) | exact PR_d4 (by assumption) | assumption) rfl (by omega) (by decide) (by first | decide | omega) (fun s1 h1 => ?_)
    | with_reducible refine q_labels' (by assumption) (by omega) (by omega) (fun s1 os1 p1 n1 el1 h1 => ?_)
    | with_reducible refine q_tqy (by assumption) ?_
    | with_reducible refine q_tqn (by assumption) ?_
    | with_reducible refine q_30 (by assumption) (by omega) (fun s1 h1 => ?_)
    | rw [el1]
    | with_reducible refine q_nmp (by assumption) (PR_a (by assumption)) (by omega) (fun s1 h1 => ?_)
    | with_reducible refine q_ite (fun hk1 => ?_) (fun hk0 => ?_)
    | contradiction
    | with_reducible exact absurd (And.intro (by assumption) (by assumption)) (by assumption)
    | (exfalso; omega)
    | simp only [fun q => nk q 17 (by decide), fun q => nk q 59 (by decide), fun q => nk q 60 (by decide), gpT, List.cons_append, List.nil_append, show (0 : Int32) &&& 1 = 0 from rfl, show (1 : Int32) &&& 1 = 1 from rfl, show ¬ ((1 : Int32) = 0) by decide, show ¬ ((0 : Int32) = 1) by decide, if_true, if_false, eq_self_iff_true]
    | split
set_option maxRecDepth 8000 in
set_option maxHeartbeats 1000000 in
theorem g_26 (d x y z : Nat) (h : PR K V N lx s (gs, os, p, dp, sc, n)) (hg : gs.length + 10 ≤ 9000) (hs : sc.length < 70) (hp : p ≤ N) (hn : n + (N - p) + 10 ≤ 26000) (hd : dp ≤ 60) (hx : x < 2 ^ 26) (hy : y < 2 ^ 26) (hz : z < 2 ^ 26) : pq_ K V N lx (pg_26 K V N lx x y z (gs, os, p, dp, sc, n)) (mE (d + 8) 37 [vr_ (some 0), vi_ (nI 26), vi_ (nI x), vi_ (nI y), vi_ (nI z)] s) := by
  have t2 := h.1.2.1
  have nk : ∀ q c, c < 2 ^ 31 → (nI (K q) = (OfNat.ofNat c : Int32)) = (K q = c) := fun q c hc => neq1_ c (PT_k h.1 q) hc
  have nx : ∀ c, c < 2 ^ 31 → (nI x = (OfNat.ofNat c : Int32)) = (x = c) := fun c hc => neq1_ c (by omega) hc
  have hol := PO_len h.2.2.2.2.2
  rw [me_reachC]
  refine q_tk h ?_
  rw [if_neg (by decide), if_neg (by decide), if_neg (by decide), if_neg (by decide), if_neg (by decide), if_neg (by decide), if_neg (by decide), if_neg (by decide), if_neg (by decide), if_neg (by decide), if_neg (by decide), if_pos (by decide)]
  dsimp only [pg_26]
  repeat' first
    | with_reducible exact q_none
    | with_reducible exact q_ok (by assumption)
    | with_reducible exact q_okd (by assumption) (by omega)
    | with_reducible exact q_fl (by assumption)
    | with_reducible exact q_fl' (by assumption) (by assumption)
    | with_reducible exact q_okp (by assumption) (by omega) (PR_a (by assumption))
    | with_reducible refine q_goal' (by assumption) (by first | exact nlo_ _ | exact nsb1_ (by omega) | exact nI_1 _ | exact n8_ _ | rfl | exact PR_a (by assumption) | exact PR_o (by assumption) | exact PR_d4 (by assumption) | assumption) (by first | exact nlo_ _ | exact nsb1_ (by omega) | exact nI_1 _ | exact n8_ _ | rfl | exact PR_a (by assumption) | exact PR_o (by assumption) | exact PR_d4 (by assumption) | assumption) (by first | exact nlo_ _ | exact nsb1_ (by omega) | exact nI_1 _ | exact n8_ _ | rfl | exact PR_a (by assumption) | exact PR_o (by assumption) | exact PR_d4 (by assumption) | assumption) (by first | exact nlo_ _ | exact nsb1_ (by omega) | exact nI_1 _ | exact n8_ _ | rfl | exact PR_a (by assumption) | exact PR_o (by assumption) | exact PR_d4 (by assumption) | assumption) (by first | omega | (simp only [List.length_cons]; omega)) ⟨by first | decide | omega, by first | decide | omega, by first | decide | omega, by first | decide | omega⟩ (fun s1 h1 => ?_)
    | with_reducible refine q_goalp (by assumption) (PR_a (by assumption)) (by omega) (by first | exact nlo_ _ | exact nsb1_ (by omega) | exact nI_1 _ | exact n8_ _ | rfl | exact PR_a (by assumption) | exact PR_o (by assumption) | exact PR_d4 (by assumption) | assumption) (by first | exact nlo_ _ | exact nsb1_ (by omega) | exact nI_1 _ | exact n8_ _ | rfl | exact PR_a (by assumption) | exact PR_o (by assumption) | exact PR_d4 (by assumption) | assumption) (by first | exact nlo_ _ | exact nsb1_ (by omega) | exact nI_1 _ | exact n8_ _ | rfl | exact PR_a (by assumption) | exact PR_o (by assumption) | exact PR_d4 (by assumption) | assumption) (by first | exact nlo_ _ | exact nsb1_ (by omega) | exact nI_1 _ | exact n8_ _ | rfl | exact PR_a (by assumption) | exact PR_o (by assumption) | exact PR_d4 (by assumption) | assumption) (by first | omega | (simp only [List.length_cons]; omega)) ⟨by first | decide | omega, by first | decide | omega, by first | decide | omega, by first | decide | omega⟩ (fun s1 h1 => ?_)
    | with_reducible refine q_tk (by assumption) ?_
    | with_reducible refine q_tkp (by assumption) (PR_a (by assumption)) (by omega) (fun s1 h1 => ?_)
    | with_reducible refine q_takeq (by assumption) (by first | exact nlo_ _ | rfl) (by first | decide | omega) (by first | decide | omega) (fun hk1 s1 h1 => ?_) ?_
    | with_reducible refine q_take' (by assumption) (by first | exact nlo_ _ | rfl) (by first | decide | omega) (by first | decide | omega) (fun hk1 s1 h1 => ?_) (fun hk0 => ?_)
    | with_reducible refine q_takep (by assumption) (PR_a (by assumption)) (by omega) (by first | exact nlo_ _ | rfl) (by first | decide | omega) (by first | decide | omega) (fun hk1 s1 h1 => ?_) (fun hk0 s1 h1 => ?_)
    | with_reducible refine q_openp (by assumption) (PR_a (by assumption)) (by omega) (by omega) (by omega) (fun s1 h1 => ?_) (fun hk1 hd1 s1 h1 => ?_)
    | with_reducible refine q_deep (by assumption) (fun hd0 => ?_) (fun hd1 s1 h1 => ?_) (by omega)
    | with_reducible refine q_openq (by assumption) (by omega) (by omega) ?_ (fun hk1 hd1 s1 h1 => ?_)
    | with_reducible refine q_shutS (by assumption) (by omega) (fun s1 e1 t1 => ?_) (fun s1 p1 d1 sc1 h1 hp1 => ?_)
    | with_reducible refine q_shut' (by assumption) (by first | exact nlo_ _ | exact nsb1_ (by omega) | exact nI_1 _ | exact n8_ _ | rfl | exact PR_a (by assumption) | exact PR_o (by assumption) | exact PR_d4 (by assumption) | assumption) (by first | exact nlo_ _ | exact nsb1_ (by omega) | exact nI_1 _ | exact n8_ _ | rfl | exact PR_a (by assumption) | exact PR_o (by assumption) | exact PR_d4 (by assumption) | assumption) (by first | exact nlo_ _ | exact nsb1_ (by omega) | exact nI_1 _ | exact n8_ _ | rfl | exact PR_a (by assumption) | exact PR_o (by assumption) | exact PR_d4 (by assumption) | assumption) (by first | exact nlo_ _ | exact nsb1_ (by omega) | exact nI_1 _ | exact n8_ _ | rfl | exact PR_a (by assumption) | exact PR_o (by assumption) | exact PR_d4 (by assumption) | assumption) (by omega) (by first | decide | omega) (by first | decide | omega) (fun hb1 s1 h1 _ => ?_)
    | with_reducible refine q_leaf' (by assumption) (by first | exact nlo_ _ | exact nsb1_ (by omega) | exact nI_1 _ | exact n8_ _ | rfl | exact PR_a (by assumption) | exact PR_o (by assumption) | exact PR_d4 (by assumption) | assumption) (by first | exact nlo_ _ | exact nsb1_ (by omega) | exact nI_1 _ | exact n8_ _ | rfl | exact PR_a (by assumption) | exact PR_o (by assumption) | exact PR_d4 (by assumption) | assumption) rfl (by omega) (by decide) (by first | decide | omega) (fun s1 h1 => ?_)
    | with_reducible refine q_leafp (by assumption) (PR_a (by assumption)) (by omega) (by first | exact nlo_ _ | exact nsb1_ (by omega) | exact nI_1 _ | exact n8_ _ | rfl | exact PR_a (by assumption) | exact PR_o (by assumption) | exact PR_d4 (by assumption) | assumption) (by first | exact nlo_ _ | exact nsb1_ (by omega) | exact nI_1 _ | exact n8_ _ | rfl | exact PR_a (by assumption) | exact PR_o (by assumption) | exact PR_d4 (by assumption) | assumption) rfl (by omega) (by decide) (by first | decide | omega) (fun s1 h1 => ?_)
    | with_reducible refine q_labels' (by assumption) (by omega) (by omega) (fun s1 os1 p1 n1 el1 h1 => ?_)
    | with_reducible refine q_tqy (by assumption) ?_
    | with_reducible refine q_tqn (by assumption) ?_
    | with_reducible refine q_30 (by assumption) (by omega) (fun s1 h1 => ?_)
    | with_reducible refine q_ite (fun hk1 => ?_) (fun hk0 => ?_)
    | contradiction
    | with_reducible exact absurd (And.intro (by assumption) (by assumption)) (by assumption)
    | (exfalso; omega)
    | simp only [fun q => nk q 14 (by decide), gpT, List.cons_append, List.nil_append, show (0 : Int32) &&& 1 = 0 from rfl, show (1 : Int32) &&& 1 = 1 from rfl, show ¬ ((1 : Int32) = 0) by decide, show ¬ ((0 : Int32) = 1) by decide, if_true, if_false, eq_self_iff_true]
    | split
set_option maxRecDepth 8000 in
set_option maxHeartbeats 1000000 in
theorem g_25 (d x y z : Nat) (h : PR K V N lx s (gs, os, p, dp, sc, n)) (hg : gs.length + 10 ≤ 9000) (hs : sc.length < 70) (hp : p ≤ N) (hn : n + (N - p) + 10 ≤ 26000) (hd : dp ≤ 60) (hx : x < 2 ^ 26) (hy : y < 2 ^ 26) (hz : z < 2 ^ 26) : pq_ K V N lx (pg_25 K V N lx x y z (gs, os, p, dp, sc, n)) (mE (d + 8) 37 [vr_ (some 0), vi_ (nI 25), vi_ (nI x), vi_ (nI y), vi_ (nI z)] s) := by
  have t2 := h.1.2.1
  have nk : ∀ q c, c < 2 ^ 31 → (nI (K q) = (OfNat.ofNat c : Int32)) = (K q = c) := fun q c hc => neq1_ c (PT_k h.1 q) hc
  have nx : ∀ c, c < 2 ^ 31 → (nI x = (OfNat.ofNat c : Int32)) = (x = c) := fun c hc => neq1_ c (by omega) hc
  have hol := PO_len h.2.2.2.2.2
  rw [me_reachC]
  refine q_tk h ?_
  rw [if_neg (by decide), if_neg (by decide), if_neg (by decide), if_neg (by decide), if_neg (by decide), if_neg (by decide), if_neg (by decide), if_neg (by decide), if_neg (by decide), if_neg (by decide), if_pos (by decide)]
  dsimp only [pg_25]
  by_cases hk : K p = 14 ∨ K p = 16
  · rw [if_pos hk]
    repeat' first
      | with_reducible exact q_none
      | with_reducible exact q_ok (by assumption)
      | with_reducible exact q_okd (by assumption) (by omega)
      | with_reducible exact q_fl (by assumption)
      | with_reducible exact q_fl' (by assumption) (by assumption)
      | with_reducible exact q_okp (by assumption) (by omega) (PR_a (by assumption))
      | with_reducible refine q_goal' (by assumption) (by first | exact nlo_ _ | exact nsb1_ (by omega) | exact nI_1 _ | exact n8_ _ | rfl | exact PR_a (by assumption) | exact PR_o (by assumption) | exact PR_d4 (by assumption) | assumption) (by first | exact nlo_ _ | exact nsb1_ (by omega) | exact nI_1 _ | exact n8_ _ | rfl | exact PR_a (by assumption) | exact PR_o (by assumption) | exact PR_d4 (by assumption) | assumption) (by first | exact nlo_ _ | exact nsb1_ (by omega) | exact nI_1 _ | exact n8_ _ | rfl | exact PR_a (by assumption) | exact PR_o (by assumption) | exact PR_d4 (by assumption) | assumption) (by first | exact nlo_ _ | exact nsb1_ (by omega) | exact nI_1 _ | exact n8_ _ | rfl | exact PR_a (by assumption) | exact PR_o (by assumption) | exact PR_d4 (by assumption) | assumption) (by first | omega | (simp only [List.length_cons]; omega)) ⟨by first | decide | omega, by first | decide | omega, by first | decide | omega, by first | decide | omega⟩ (fun s1 h1 => ?_)
      | with_reducible refine q_goalp (by assumption) (PR_a (by assumption)) (by omega) (by first | exact nlo_ _ | exact nsb1_ (by omega) | exact nI_1 _ | exact n8_ _ | rfl | exact PR_a (by assumption) | exact PR_o (by assumption) | exact PR_d4 (by assumption) | assumption) (by first | exact nlo_ _ | exact nsb1_ (by omega) | exact nI_1 _ | exact n8_ _ | rfl | exact PR_a (by assumption) | exact PR_o (by assumption) | exact PR_d4 (by assumption) | assumption) (by first | exact nlo_ _ | exact nsb1_ (by omega) | exact nI_1 _ | exact n8_ _ | rfl | exact PR_a (by assumption) | exact PR_o (by assumption) | exact PR_d4 (by assumption) | assumption) (by first | exact nlo_ _ | exact nsb1_ (by omega) | exact nI_1 _ | exact n8_ _ | rfl | exact PR_a (by assumption) | exact PR_o (by assumption) | exact PR_d4 (by assumption) | assumption) (by first | omega | (simp only [List.length_cons]; omega)) ⟨by first | decide | omega, by first | decide | omega, by first | decide | omega, by first | decide | omega⟩ (fun s1 h1 => ?_)
      | with_reducible refine q_tk (by assumption) ?_
      | with_reducible refine q_tkp (by assumption) (PR_a (by assumption)) (by omega) (fun s1 h1 => ?_)
      | with_reducible refine q_takeq (by assumption) (by first | exact nlo_ _ | rfl) (by first | decide | omega) (by first | decide | omega) (fun hk1 s1 h1 => ?_) ?_
      | with_reducible refine q_take' (by assumption) (by first | exact nlo_ _ | rfl) (by first | decide | omega) (by first | decide | omega) (fun hk1 s1 h1 => ?_) (fun hk0 => ?_)
      | with_reducible refine q_takep (by assumption) (PR_a (by assumption)) (by omega) (by first | exact nlo_ _ | rfl) (by first | decide | omega) (by first | decide | omega) (fun hk1 s1 h1 => ?_) (fun hk0 s1 h1 => ?_)
      | with_reducible refine q_openp (by assumption) (PR_a (by assumption)) (by omega) (by omega) (by omega) (fun s1 h1 => ?_) (fun hk1 hd1 s1 h1 => ?_)
      | with_reducible refine q_deep (by assumption) (fun hd0 => ?_) (fun hd1 s1 h1 => ?_) (by omega)
      | with_reducible refine q_openq (by assumption) (by omega) (by omega) ?_ (fun hk1 hd1 s1 h1 => ?_)
      | with_reducible refine q_shutS (by assumption) (by omega) (fun s1 e1 t1 => ?_) (fun s1 p1 d1 sc1 h1 hp1 => ?_)
      | with_reducible refine q_shut' (by assumption) (by first | exact nlo_ _ | exact nsb1_ (by omega) | exact nI_1 _ | exact n8_ _ | rfl | exact PR_a (by assumption) | exact PR_o (by assumption) | exact PR_d4 (by assumption) | assumption) (by first | exact nlo_ _ | exact nsb1_ (by omega) | exact nI_1 _ | exact n8_ _ | rfl | exact PR_a (by assumption) | exact PR_o (by assumption) | exact PR_d4 (by assumption) | assumption) (by first | exact nlo_ _ | exact nsb1_ (by omega) | exact nI_1 _ | exact n8_ _ | rfl | exact PR_a (by assumption) | exact PR_o (by assumption) | exact PR_d4 (by assumption) | assumption) (by first | exact nlo_ _ | exact nsb1_ (by omega) | exact nI_1 _ | exact n8_ _ | rfl | exact PR_a (by assumption) | exact PR_o (by assumption) | exact PR_d4 (by assumption) | assumption) (by omega) (by first | decide | omega) (by first | decide | omega) (fun hb1 s1 h1 _ => ?_)
      | with_reducible refine q_leaf' (by assumption) (by first | exact nlo_ _ | exact nsb1_ (by omega) | exact nI_1 _ | exact n8_ _ | rfl | exact PR_a (by assumption) | exact PR_o (by assumption) | exact PR_d4 (by assumption) | assumption) (by first | exact nlo_ _ | exact nsb1_ (by omega) | exact nI_1 _ | exact n8_ _ | rfl | exact PR_a (by assumption) | exact PR_o (by assumption) | exact PR_d4 (by assumption) | assumption) rfl (by omega) (by decide) (by first | decide | omega) (fun s1 h1 => ?_)
      | with_reducible refine q_leafp (by assumption) (PR_a (by assumption)) (by omega) (by first | exact nlo_ _ | exact nsb1_ (by omega) | exact nI_1 _ | exact n8_ _ | rfl | exact PR_a (by assumption) | exact PR_o (by assumption) | exact PR_d4 (by assumption) | assumption) (by first | exact nlo_ _ | exact nsb1_ (by omega) | exact nI_1 _ | exact n8_ _ | rfl | exact PR_a (by assumption) | exact PR_o (by assumption) | exact PR_d4 (by assumption) | assumption) rfl (by omega) (by decide) (by first | decide | omega) (fun s1 h1 => ?_)
      | with_reducible refine q_labels' (by assumption) (by omega) (by omega) (fun s1 os1 p1 n1 el1 h1 => ?_)
      | with_reducible refine q_tqy (by assumption) ?_
      | with_reducible refine q_tqn (by assumption) ?_
      | with_reducible refine q_30 (by assumption) (by omega) (fun s1 h1 => ?_)
      | with_reducible refine q_ite (fun hk1 => ?_) (fun hk0 => ?_)
      | contradiction
      | with_reducible exact absurd (And.intro (by assumption) (by assumption)) (by assumption)
      | (exfalso; omega)
      | simp only [fun q => nk q 14 (by decide), fun q => nk q 16 (by decide), gpT, List.cons_append, List.nil_append, show (0 : Int32) &&& 1 = 0 from rfl, show (1 : Int32) &&& 1 = 1 from rfl, show ¬ ((1 : Int32) = 0) by decide, show ¬ ((0 : Int32) = 1) by decide, if_true, if_false, eq_self_iff_true]
      | split
  · rw [if_neg hk]
    simp only [fun q => nk q 14 (by decide), fun q => nk q 16 (by decide)]
    rw [if_neg (c := K p = 14) (by omega), if_neg (c := K p = 16) (by omega)]
    match os, h, hol with
    | [], h, _ => exact q_none
    | t :: os, h, hol =>
      obtain ⟨i, e1, e2, e3, e4⟩ := q_top h (by omega)
      rw [e1, Option.bind_some, e2, Option.bind_some]
      simp only [neq1_ 6 (show kd_ t < 2 ^ 31 by omega) (by decide)]
      repeat' first
        | with_reducible exact q_none
        | with_reducible exact q_ok (by assumption)
        | with_reducible exact q_okd (by assumption) (by omega)
        | with_reducible exact q_fl (by assumption)
        | with_reducible exact q_fl' (by assumption) (by assumption)
        | with_reducible exact q_okp (by assumption) (by omega) (PR_a (by assumption))
        | with_reducible refine q_goal' (by assumption) (by first | exact nlo_ _ | exact nsb1_ (by omega) | exact nI_1 _ | exact n8_ _ | rfl | exact PR_a (by assumption) | exact PR_o (by assumption) | exact PR_d4 (by assumption) | assumption) (by first | exact nlo_ _ | exact nsb1_ (by omega) | exact nI_1 _ | exact n8_ _ | rfl | exact PR_a (by assumption) | exact PR_o (by assumption) | exact PR_d4 (by assumption) | assumption) (by first | exact nlo_ _ | exact nsb1_ (by omega) | exact nI_1 _ | exact n8_ _ | rfl | exact PR_a (by assumption) | exact PR_o (by assumption) | exact PR_d4 (by assumption) | assumption) (by first | exact nlo_ _ | exact nsb1_ (by omega) | exact nI_1 _ | exact n8_ _ | rfl | exact PR_a (by assumption) | exact PR_o (by assumption) | exact PR_d4 (by assumption) | assumption) (by first | omega | (simp only [List.length_cons]; omega)) ⟨by first | decide | omega, by first | decide | omega, by first | decide | omega, by first | decide | omega⟩ (fun s1 h1 => ?_)
        | with_reducible refine q_goalp (by assumption) (PR_a (by assumption)) (by omega) (by first | exact nlo_ _ | exact nsb1_ (by omega) | exact nI_1 _ | exact n8_ _ | rfl | exact PR_a (by assumption) | exact PR_o (by assumption) | exact PR_d4 (by assumption) | assumption) (by first | exact nlo_ _ | exact nsb1_ (by omega) | exact nI_1 _ | exact n8_ _ | rfl | exact PR_a (by assumption) | exact PR_o (by assumption) | exact PR_d4 (by assumption) | assumption) (by first | exact nlo_ _ | exact nsb1_ (by omega) | exact nI_1 _ | exact n8_ _ | rfl | exact PR_a (by assumption) | exact PR_o (by assumption) | exact PR_d4 (by assumption) | assumption) (by first | exact nlo_ _ | exact nsb1_ (by omega) | exact nI_1 _ | exact n8_ _ | rfl | exact PR_a (by assumption) | exact PR_o (by assumption) | exact PR_d4 (by assumption) | assumption) (by first | omega | (simp only [List.length_cons]; omega)) ⟨by first | decide | omega, by first | decide | omega, by first | decide | omega, by first | decide | omega⟩ (fun s1 h1 => ?_)
        | with_reducible refine q_tk (by assumption) ?_
        | with_reducible refine q_tkp (by assumption) (PR_a (by assumption)) (by omega) (fun s1 h1 => ?_)
        | with_reducible refine q_takeq (by assumption) (by first | exact nlo_ _ | rfl) (by first | decide | omega) (by first | decide | omega) (fun hk1 s1 h1 => ?_) ?_
        | with_reducible refine q_take' (by assumption) (by first | exact nlo_ _ | rfl) (by first | decide | omega) (by first | decide | omega) (fun hk1 s1 h1 => ?_) (fun hk0 => ?_)
        | with_reducible refine q_takep (by assumption) (PR_a (by assumption)) (by omega) (by first | exact nlo_ _ | rfl) (by first | decide | omega) (by first | decide | omega) (fun hk1 s1 h1 => ?_) (fun hk0 s1 h1 => ?_)
        | with_reducible refine q_openp (by assumption) (PR_a (by assumption)) (by omega) (by omega) (by omega) (fun s1 h1 => ?_) (fun hk1 hd1 s1 h1 => ?_)
        | with_reducible refine q_deep (by assumption) (fun hd0 => ?_) (fun hd1 s1 h1 => ?_) (by omega)
        | with_reducible refine q_openq (by assumption) (by omega) (by omega) ?_ (fun hk1 hd1 s1 h1 => ?_)
        | with_reducible refine q_shutS (by assumption) (by omega) (fun s1 e1 t1 => ?_) (fun s1 p1 d1 sc1 h1 hp1 => ?_)
        | with_reducible refine q_shut' (by assumption) (by first | exact nlo_ _ | exact nsb1_ (by omega) | exact nI_1 _ | exact n8_ _ | rfl | exact PR_a (by assumption) | exact PR_o (by assumption) | exact PR_d4 (by assumption) | assumption) (by first | exact nlo_ _ | exact nsb1_ (by omega) | exact nI_1 _ | exact n8_ _ | rfl | exact PR_a (by assumption) | exact PR_o (by assumption) | exact PR_d4 (by assumption) | assumption) (by first | exact nlo_ _ | exact nsb1_ (by omega) | exact nI_1 _ | exact n8_ _ | rfl | exact PR_a (by assumption) | exact PR_o (by assumption) | exact PR_d4 (by assumption) | assumption) (by first | exact nlo_ _ | exact nsb1_ (by omega) | exact nI_1 _ | exact n8_ _ | rfl | exact PR_a (by assumption) | exact PR_o (by assumption) | exact PR_d4 (by assumption) | assumption) (by omega) (by first | decide | omega) (by first | decide | omega) (fun hb1 s1 h1 _ => ?_)
        | with_reducible refine q_leaf' (by assumption) (by first | exact nlo_ _ | exact nsb1_ (by omega) | exact nI_1 _ | exact n8_ _ | rfl | exact PR_a (by assumption) | exact PR_o (by assumption) | exact PR_d4 (by assumption) | assumption) (by first | exact nlo_ _ | exact nsb1_ (by omega) | exact nI_1 _ | exact n8_ _ | rfl | exact PR_a (by assumption) | exact PR_o (by assumption) | exact PR_d4 (by assumption) | assumption) rfl (by omega) (by decide) (by first | decide | omega) (fun s1 h1 => ?_)
        | with_reducible refine q_leafp (by assumption) (PR_a (by assumption)) (by omega) (by first | exact nlo_ _ | exact nsb1_ (by omega) | exact nI_1 _ | exact n8_ _ | rfl | exact PR_a (by assumption) | exact PR_o (by assumption) | exact PR_d4 (by assumption) | assumption) (by first | exact nlo_ _ | exact nsb1_ (by omega) | exact nI_1 _ | exact n8_ _ | rfl | exact PR_a (by assumption) | exact PR_o (by assumption) | exact PR_d4 (by assumption) | assumption) rfl (by omega) (by decide) (by first | decide | omega) (fun s1 h1 => ?_)
        | with_reducible refine q_labels' (by assumption) (by omega) (by omega) (fun s1 os1 p1 n1 el1 h1 => ?_)
        | with_reducible refine q_tqy (by assumption) ?_
        | with_reducible refine q_tqn (by assumption) ?_
        | with_reducible refine q_30 (by assumption) (by omega) (fun s1 h1 => ?_)
        | rw [e3, Option.bind_some]
        | with_reducible exact absurd (And.intro (by assumption) (by assumption)) (show ¬ (kd_ t = 6 ∧ pr_ t = false) by assumption)
        | with_reducible exact absurd (And.right (show kd_ t = 6 ∧ pr_ t = false by assumption)) (by assumption)
        | with_reducible exact absurd (And.left (show kd_ t = 6 ∧ pr_ t = false by assumption)) (by assumption)
        | with_reducible refine q_ite (fun hk1 => ?_) (fun hk0 => ?_)
        | contradiction
        | with_reducible exact absurd (And.intro (by assumption) (by assumption)) (by assumption)
        | (exfalso; omega)
        | simp only [zb_0, fun q => nk q 14 (by decide), fun q => nk q 16 (by decide), gpT, List.cons_append, List.nil_append, show (0 : Int32) &&& 1 = 0 from rfl, show (1 : Int32) &&& 1 = 1 from rfl, show ¬ ((1 : Int32) = 0) by decide, show ¬ ((0 : Int32) = 1) by decide, if_true, if_false, eq_self_iff_true]
        | split
set_option maxRecDepth 8000 in
set_option maxHeartbeats 1000000 in
theorem g_11 (d x y z : Nat) (h : PR K V N lx s (gs, os, p, dp, sc, n)) (hg : gs.length + 10 ≤ 9000) (hs : sc.length < 70) (hp : p ≤ N) (hn : n + (N - p) + 10 ≤ 26000) (hd : dp ≤ 60) (hx : x < 2 ^ 26) (hy : y < 2 ^ 26) (hz : z < 2 ^ 26) : pq_ K V N lx (pg_11 K V N lx x y z (gs, os, p, dp, sc, n)) (mE (d + 8) 37 [vr_ (some 0), vi_ (nI 11), vi_ (nI x), vi_ (nI y), vi_ (nI z)] s) := by
  have t2 := h.1.2.1
  have nk : ∀ q c, c < 2 ^ 31 → (nI (K q) = (OfNat.ofNat c : Int32)) = (K q = c) := fun q c hc => neq1_ c (PT_k h.1 q) hc
  have nx : ∀ c, c < 2 ^ 31 → (nI x = (OfNat.ofNat c : Int32)) = (x = c) := fun c hc => neq1_ c (by omega) hc
  have hol := PO_len h.2.2.2.2.2
  rw [me_reachC]
  refine q_tk h ?_
  rw [if_pos (by decide)]
  dsimp only [pg_11]
  cases hdi : isD_ (K (p + 1))
  all_goals
    dsimp only [cm_p]
    refine q_goal' h (nlo_ _) (PR_d4 h) (nlo_ _) (PR_o h) (by omega) ⟨by decide, by omega, by decide, by omega⟩ (fun s1 h1 => ?_)
    refine q_ret ?_
    rw [me_command, PR_a h, PR_o h, m_beginsE _ _ _ (PT_k h.1 _), bI_s]
    simp only [zb_0]
    simp only [fun q => nk q 1 (by decide), fun q => nk q 10 (by decide), fun q => nk q 11 (by decide), fun q => nk q 15 (by decide), fun q => nk q 25 (by decide), fun q => nk q 47 (by decide), fun q => nk q 49 (by decide), fun q => nk q 50 (by decide), fun q => nk q 52 (by decide), fun q => nk q 53 (by decide), fun q => nk q 54 (by decide), fun q => nk q 57 (by decide), fun q => nk q 61 (by decide), fun q => nk q 62 (by decide), fun q => nk q 63 (by decide), fun q => nk q 64 (by decide), fun q => nk q 65 (by decide), fun q => nk q 66 (by decide), fun q => nk q 67 (by decide)]
    refine q_ite (fun hk1 => ?_) (fun hk15 => ?_)
    · repeat' first
        | with_reducible exact q_none
        | with_reducible exact q_ok (by assumption)
        | with_reducible exact q_okd (by assumption) (by omega)
        | with_reducible exact q_fl (by assumption)
        | with_reducible exact q_fl' (by assumption) (by assumption)
        | with_reducible exact q_okp (by assumption) (by omega) (PR_a (by assumption))
        | with_reducible refine q_goal' (by assumption) (by first | exact nlo_ _ | exact nsb1_ (by omega) | exact nI_1 _ | exact n8_ _ | rfl | exact PR_a (by assumption) | exact PR_o (by assumption) | exact PR_d4 (by assumption) | assumption) (by first | exact nlo_ _ | exact nsb1_ (by omega) | exact nI_1 _ | exact n8_ _ | rfl | exact PR_a (by assumption) | exact PR_o (by assumption) | exact PR_d4 (by assumption) | assumption) (by first | exact nlo_ _ | exact nsb1_ (by omega) | exact nI_1 _ | exact n8_ _ | rfl | exact PR_a (by assumption) | exact PR_o (by assumption) | exact PR_d4 (by assumption) | assumption) (by first | exact nlo_ _ | exact nsb1_ (by omega) | exact nI_1 _ | exact n8_ _ | rfl | exact PR_a (by assumption) | exact PR_o (by assumption) | exact PR_d4 (by assumption) | assumption) (by first | omega | (simp only [List.length_cons]; omega)) ⟨by first | decide | omega, by first | decide | omega, by first | decide | omega, by first | decide | omega⟩ (fun s1 h1 => ?_)
        | with_reducible refine q_goalp (by assumption) (PR_a (by assumption)) (by omega) (by first | exact nlo_ _ | exact nsb1_ (by omega) | exact nI_1 _ | exact n8_ _ | rfl | exact PR_a (by assumption) | exact PR_o (by assumption) | exact PR_d4 (by assumption) | assumption) (by first | exact nlo_ _ | exact nsb1_ (by omega) | exact nI_1 _ | exact n8_ _ | rfl | exact PR_a (by assumption) | exact PR_o (by assumption) | exact PR_d4 (by assumption) | assumption) (by first | exact nlo_ _ | exact nsb1_ (by omega) | exact nI_1 _ | exact n8_ _ | rfl | exact PR_a (by assumption) | exact PR_o (by assumption) | exact PR_d4 (by assumption) | assumption) (by first | exact nlo_ _ | exact nsb1_ (by omega) | exact nI_1 _ | exact n8_ _ | rfl | exact PR_a (by assumption) | exact PR_o (by assumption) | exact PR_d4 (by assumption) | assumption) (by first | omega | (simp only [List.length_cons]; omega)) ⟨by first | decide | omega, by first | decide | omega, by first | decide | omega, by first | decide | omega⟩ (fun s1 h1 => ?_)
        | with_reducible refine q_tk (by assumption) ?_
        | with_reducible refine q_tkp (by assumption) (PR_a (by assumption)) (by omega) (fun s1 h1 => ?_)
        | with_reducible refine q_takeq (by assumption) (by first | exact nlo_ _ | rfl) (by first | decide | omega) (by first | decide | omega) (fun hk1 s1 h1 => ?_) ?_
        | with_reducible refine q_take' (by assumption) (by first | exact nlo_ _ | rfl) (by first | decide | omega) (by first | decide | omega) (fun hk1 s1 h1 => ?_) (fun hk0 => ?_)
        | with_reducible refine q_takep (by assumption) (PR_a (by assumption)) (by omega) (by first | exact nlo_ _ | rfl) (by first | decide | omega) (by first | decide | omega) (fun hk1 s1 h1 => ?_) (fun hk0 s1 h1 => ?_)
        | with_reducible refine q_openp (by assumption) (PR_a (by assumption)) (by omega) (by omega) (by omega) (fun s1 h1 => ?_) (fun hk1 hd1 s1 h1 => ?_)
        | with_reducible refine q_deep (by assumption) (fun hd0 => ?_) (fun hd1 s1 h1 => ?_) (by omega)
        | with_reducible refine q_openq (by assumption) (by omega) (by omega) ?_ (fun hk1 hd1 s1 h1 => ?_)
        | with_reducible refine q_shutS (by assumption) (by omega) (fun s1 e1 t1 => ?_) (fun s1 p1 d1 sc1 h1 hp1 => ?_)
        | with_reducible refine q_shut' (by assumption) (by first | exact nlo_ _ | exact nsb1_ (by omega) | exact nI_1 _ | exact n8_ _ | rfl | exact PR_a (by assumption) | exact PR_o (by assumption) | exact PR_d4 (by assumption) | assumption) (by first | exact nlo_ _ | exact nsb1_ (by omega) | exact nI_1 _ | exact n8_ _ | rfl | exact PR_a (by assumption) | exact PR_o (by assumption) | exact PR_d4 (by assumption) | assumption) (by first | exact nlo_ _ | exact nsb1_ (by omega) | exact nI_1 _ | exact n8_ _ | rfl | exact PR_a (by assumption) | exact PR_o (by assumption) | exact PR_d4 (by assumption) | assumption) (by first | exact nlo_ _ | exact nsb1_ (by omega) | exact nI_1 _ | exact n8_ _ | rfl | exact PR_a (by assumption) | exact PR_o (by assumption) | exact PR_d4 (by assumption) | assumption) (by omega) (by first | decide | omega) (by first | decide | omega) (fun hb1 s1 h1 _ => ?_)
        | with_reducible refine q_leaf' (by assumption) (by first | exact nlo_ _ | exact nsb1_ (by omega) | exact nI_1 _ | exact n8_ _ | rfl | exact PR_a (by assumption) | exact PR_o (by assumption) | exact PR_d4 (by assumption) | assumption) (by first | exact nlo_ _ | exact nsb1_ (by omega) | exact nI_1 _ | exact n8_ _ | rfl | exact PR_a (by assumption) | exact PR_o (by assumption) | exact PR_d4 (by assumption) | assumption) rfl (by omega) (by decide) (by first | decide | omega) (fun s1 h1 => ?_)
        | with_reducible refine q_leafp (by assumption) (PR_a (by assumption)) (by omega) (by first | exact nlo_ _ | exact nsb1_ (by omega) | exact nI_1 _ | exact n8_ _ | rfl | exact PR_a (by assumption) | exact PR_o (by assumption) | exact PR_d4 (by assumption) | assumption) (by first | exact nlo_ _ | exact nsb1_ (by omega) | exact nI_1 _ | exact n8_ _ | rfl | exact PR_a (by assumption) | exact PR_o (by assumption) | exact PR_d4 (by assumption) | assumption) rfl (by omega) (by decide) (by first | decide | omega) (fun s1 h1 => ?_)
        | with_reducible refine q_labels' (by assumption) (by omega) (by omega) (fun s1 os1 p1 n1 el1 h1 => ?_)
        | with_reducible refine q_tqy (by assumption) ?_
        | with_reducible refine q_tqn (by assumption) ?_
        | with_reducible refine q_30 (by assumption) (by omega) (fun s1 h1 => ?_)
        | rw [m_isD _ _ _ (PT_k h.1 _), bI_s]
        | rw [PR_a h2, mm_a_n (by omega) (by decide), Option.bind_some, (h2.1.2.2.1 _ (PT_lt h.1 (by assumption) (by decide))).2]
        | with_reducible refine q_ite (fun hk1 => ?_) (fun hk0 => ?_)
        | contradiction
        | with_reducible exact absurd (And.intro (by assumption) (by assumption)) (by assumption)
        | (exfalso; omega)
        | simp only [hdi, zb_0, Bool.false_eq_true, Bool.true_eq_false, fun q => nk q 1 (by decide), fun q => nk q 10 (by decide), fun q => nk q 11 (by decide), fun q => nk q 15 (by decide), fun q => nk q 25 (by decide), fun q => nk q 47 (by decide), fun q => nk q 49 (by decide), fun q => nk q 50 (by decide), fun q => nk q 52 (by decide), fun q => nk q 53 (by decide), fun q => nk q 54 (by decide), fun q => nk q 57 (by decide), fun q => nk q 61 (by decide), fun q => nk q 62 (by decide), fun q => nk q 63 (by decide), fun q => nk q 64 (by decide), fun q => nk q 65 (by decide), fun q => nk q 66 (by decide), fun q => nk q 67 (by decide), gpT, List.cons_append, List.nil_append, show (0 : Int32) &&& 1 = 0 from rfl, show (1 : Int32) &&& 1 = 1 from rfl, show ¬ ((1 : Int32) = 0) by decide, show ¬ ((0 : Int32) = 1) by decide, if_true, if_false, eq_self_iff_true]
        | split
    refine q_ite (fun hk1 => ?_) (fun hk11 => ?_)
    · repeat' first
        | with_reducible exact q_none
        | with_reducible exact q_ok (by assumption)
        | with_reducible exact q_okd (by assumption) (by omega)
        | with_reducible exact q_fl (by assumption)
        | with_reducible exact q_fl' (by assumption) (by assumption)
        | with_reducible exact q_okp (by assumption) (by omega) (PR_a (by assumption))
        | with_reducible refine q_goal' (by assumption) (by first | exact nlo_ _ | exact nsb1_ (by omega) | exact nI_1 _ | exact n8_ _ | rfl | exact PR_a (by assumption) | exact PR_o (by assumption) | exact PR_d4 (by assumption) | assumption) (by first | exact nlo_ _ | exact nsb1_ (by omega) | exact nI_1 _ | exact n8_ _ | rfl | exact PR_a (by assumption) | exact PR_o (by assumption) | exact PR_d4 (by assumption) | assumption) (by first | exact nlo_ _ | exact nsb1_ (by omega) | exact nI_1 _ | exact n8_ _ | rfl | exact PR_a (by assumption) | exact PR_o (by assumption) | exact PR_d4 (by assumption) | assumption) (by first | exact nlo_ _ | exact nsb1_ (by omega) | exact nI_1 _ | exact n8_ _ | rfl | exact PR_a (by assumption) | exact PR_o (by assumption) | exact PR_d4 (by assumption) | assumption) (by first | omega | (simp only [List.length_cons]; omega)) ⟨by first | decide | omega, by first | decide | omega, by first | decide | omega, by first | decide | omega⟩ (fun s1 h1 => ?_)
        | with_reducible refine q_goalp (by assumption) (PR_a (by assumption)) (by omega) (by first | exact nlo_ _ | exact nsb1_ (by omega) | exact nI_1 _ | exact n8_ _ | rfl | exact PR_a (by assumption) | exact PR_o (by assumption) | exact PR_d4 (by assumption) | assumption) (by first | exact nlo_ _ | exact nsb1_ (by omega) | exact nI_1 _ | exact n8_ _ | rfl | exact PR_a (by assumption) | exact PR_o (by assumption) | exact PR_d4 (by assumption) | assumption) (by first | exact nlo_ _ | exact nsb1_ (by omega) | exact nI_1 _ | exact n8_ _ | rfl | exact PR_a (by assumption) | exact PR_o (by assumption) | exact PR_d4 (by assumption) | assumption) (by first | exact nlo_ _ | exact nsb1_ (by omega) | exact nI_1 _ | exact n8_ _ | rfl | exact PR_a (by assumption) | exact PR_o (by assumption) | exact PR_d4 (by assumption) | assumption) (by first | omega | (simp only [List.length_cons]; omega)) ⟨by first | decide | omega, by first | decide | omega, by first | decide | omega, by first | decide | omega⟩ (fun s1 h1 => ?_)
        | with_reducible refine q_tk (by assumption) ?_
        | with_reducible refine q_tkp (by assumption) (PR_a (by assumption)) (by omega) (fun s1 h1 => ?_)
        | with_reducible refine q_takeq (by assumption) (by first | exact nlo_ _ | rfl) (by first | decide | omega) (by first | decide | omega) (fun hk1 s1 h1 => ?_) ?_
        | with_reducible refine q_take' (by assumption) (by first | exact nlo_ _ | rfl) (by first | decide | omega) (by first | decide | omega) (fun hk1 s1 h1 => ?_) (fun hk0 => ?_)
        | with_reducible refine q_takep (by assumption) (PR_a (by assumption)) (by omega) (by first | exact nlo_ _ | rfl) (by first | decide | omega) (by first | decide | omega) (fun hk1 s1 h1 => ?_) (fun hk0 s1 h1 => ?_)
        | with_reducible refine q_openp (by assumption) (PR_a (by assumption)) (by omega) (by omega) (by omega) (fun s1 h1 => ?_) (fun hk1 hd1 s1 h1 => ?_)
        | with_reducible refine q_deep (by assumption) (fun hd0 => ?_) (fun hd1 s1 h1 => ?_) (by omega)
        | with_reducible refine q_openq (by assumption) (by omega) (by omega) ?_ (fun hk1 hd1 s1 h1 => ?_)
        | with_reducible refine q_shutS (by assumption) (by omega) (fun s1 e1 t1 => ?_) (fun s1 p1 d1 sc1 h1 hp1 => ?_)
        | with_reducible refine q_shut' (by assumption) (by first | exact nlo_ _ | exact nsb1_ (by omega) | exact nI_1 _ | exact n8_ _ | rfl | exact PR_a (by assumption) | exact PR_o (by assumption) | exact PR_d4 (by assumption) | assumption) (by first | exact nlo_ _ | exact nsb1_ (by omega) | exact nI_1 _ | exact n8_ _ | rfl | exact PR_a (by assumption) | exact PR_o (by assumption) | exact PR_d4 (by assumption) | assumption) (by first | exact nlo_ _ | exact nsb1_ (by omega) | exact nI_1 _ | exact n8_ _ | rfl | exact PR_a (by assumption) | exact PR_o (by assumption) | exact PR_d4 (by assumption) | assumption) (by first | exact nlo_ _ | exact nsb1_ (by omega) | exact nI_1 _ | exact n8_ _ | rfl | exact PR_a (by assumption) | exact PR_o (by assumption) | exact PR_d4 (by assumption) | assumption) (by omega) (by first | decide | omega) (by first | decide | omega) (fun hb1 s1 h1 _ => ?_)
        | with_reducible refine q_leaf' (by assumption) (by first | exact nlo_ _ | exact nsb1_ (by omega) | exact nI_1 _ | exact n8_ _ | rfl | exact PR_a (by assumption) | exact PR_o (by assumption) | exact PR_d4 (by assumption) | assumption) (by first | exact nlo_ _ | exact nsb1_ (by omega) | exact nI_1 _ | exact n8_ _ | rfl | exact PR_a (by assumption) | exact PR_o (by assumption) | exact PR_d4 (by assumption) | assumption) rfl (by omega) (by decide) (by first | decide | omega) (fun s1 h1 => ?_)
        | with_reducible refine q_leafp (by assumption) (PR_a (by assumption)) (by omega) (by first | exact nlo_ _ | exact nsb1_ (by omega) | exact nI_1 _ | exact n8_ _ | rfl | exact PR_a (by assumption) | exact PR_o (by assumption) | exact PR_d4 (by assumption) | assumption) (by first | exact nlo_ _ | exact nsb1_ (by omega) | exact nI_1 _ | exact n8_ _ | rfl | exact PR_a (by assumption) | exact PR_o (by assumption) | exact PR_d4 (by assumption) | assumption) rfl (by omega) (by decide) (by first | decide | omega) (fun s1 h1 => ?_)
        | with_reducible refine q_labels' (by assumption) (by omega) (by omega) (fun s1 os1 p1 n1 el1 h1 => ?_)
        | with_reducible refine q_tqy (by assumption) ?_
        | with_reducible refine q_tqn (by assumption) ?_
        | with_reducible refine q_30 (by assumption) (by omega) (fun s1 h1 => ?_)
        | rw [m_isD _ _ _ (PT_k h.1 _), bI_s]
        | rw [PR_a h2, mm_a_n (by omega) (by decide), Option.bind_some, (h2.1.2.2.1 _ (PT_lt h.1 (by assumption) (by decide))).2]
        | with_reducible refine q_ite (fun hk1 => ?_) (fun hk0 => ?_)
        | contradiction
        | with_reducible exact absurd (And.intro (by assumption) (by assumption)) (by assumption)
        | (exfalso; omega)
        | simp only [hdi, zb_0, Bool.false_eq_true, Bool.true_eq_false, fun q => nk q 1 (by decide), fun q => nk q 10 (by decide), fun q => nk q 11 (by decide), fun q => nk q 15 (by decide), fun q => nk q 25 (by decide), fun q => nk q 47 (by decide), fun q => nk q 49 (by decide), fun q => nk q 50 (by decide), fun q => nk q 52 (by decide), fun q => nk q 53 (by decide), fun q => nk q 54 (by decide), fun q => nk q 57 (by decide), fun q => nk q 61 (by decide), fun q => nk q 62 (by decide), fun q => nk q 63 (by decide), fun q => nk q 64 (by decide), fun q => nk q 65 (by decide), fun q => nk q 66 (by decide), fun q => nk q 67 (by decide), gpT, List.cons_append, List.nil_append, show (0 : Int32) &&& 1 = 0 from rfl, show (1 : Int32) &&& 1 = 1 from rfl, show ¬ ((1 : Int32) = 0) by decide, show ¬ ((0 : Int32) = 1) by decide, if_true, if_false, eq_self_iff_true]
        | split
    by_cases hbg : bg_ (K p) = true
    · rw [if_pos hbg, if_neg (c := bg_ (K p) = false) (by rw [hbg]; decide)]
      repeat' first
        | with_reducible exact q_none
        | with_reducible exact q_ok (by assumption)
        | with_reducible exact q_okd (by assumption) (by omega)
        | with_reducible exact q_fl (by assumption)
        | with_reducible exact q_fl' (by assumption) (by assumption)
        | with_reducible exact q_okp (by assumption) (by omega) (PR_a (by assumption))
        | with_reducible refine q_goal' (by assumption) (by first | exact nlo_ _ | exact nsb1_ (by omega) | exact nI_1 _ | exact n8_ _ | rfl | exact PR_a (by assumption) | exact PR_o (by assumption) | exact PR_d4 (by assumption) | assumption) (by first | exact nlo_ _ | exact nsb1_ (by omega) | exact nI_1 _ | exact n8_ _ | rfl | exact PR_a (by assumption) | exact PR_o (by assumption) | exact PR_d4 (by assumption) | assumption) (by first | exact nlo_ _ | exact nsb1_ (by omega) | exact nI_1 _ | exact n8_ _ | rfl | exact PR_a (by assumption) | exact PR_o (by assumption) | exact PR_d4 (by assumption) | assumption) (by first | exact nlo_ _ | exact nsb1_ (by omega) | exact nI_1 _ | exact n8_ _ | rfl | exact PR_a (by assumption) | exact PR_o (by assumption) | exact PR_d4 (by assumption) | assumption) (by first | omega | (simp only [List.length_cons]; omega)) ⟨by first | decide | omega, by first | decide | omega, by first | decide | omega, by first | decide | omega⟩ (fun s1 h1 => ?_)
        | with_reducible refine q_goalp (by assumption) (PR_a (by assumption)) (by omega) (by first | exact nlo_ _ | exact nsb1_ (by omega) | exact nI_1 _ | exact n8_ _ | rfl | exact PR_a (by assumption) | exact PR_o (by assumption) | exact PR_d4 (by assumption) | assumption) (by first | exact nlo_ _ | exact nsb1_ (by omega) | exact nI_1 _ | exact n8_ _ | rfl | exact PR_a (by assumption) | exact PR_o (by assumption) | exact PR_d4 (by assumption) | assumption) (by first | exact nlo_ _ | exact nsb1_ (by omega) | exact nI_1 _ | exact n8_ _ | rfl | exact PR_a (by assumption) | exact PR_o (by assumption) | exact PR_d4 (by assumption) | assumption) (by first | exact nlo_ _ | exact nsb1_ (by omega) | exact nI_1 _ | exact n8_ _ | rfl | exact PR_a (by assumption) | exact PR_o (by assumption) | exact PR_d4 (by assumption) | assumption) (by first | omega | (simp only [List.length_cons]; omega)) ⟨by first | decide | omega, by first | decide | omega, by first | decide | omega, by first | decide | omega⟩ (fun s1 h1 => ?_)
        | with_reducible refine q_tk (by assumption) ?_
        | with_reducible refine q_tkp (by assumption) (PR_a (by assumption)) (by omega) (fun s1 h1 => ?_)
        | with_reducible refine q_takeq (by assumption) (by first | exact nlo_ _ | rfl) (by first | decide | omega) (by first | decide | omega) (fun hk1 s1 h1 => ?_) ?_
        | with_reducible refine q_take' (by assumption) (by first | exact nlo_ _ | rfl) (by first | decide | omega) (by first | decide | omega) (fun hk1 s1 h1 => ?_) (fun hk0 => ?_)
        | with_reducible refine q_takep (by assumption) (PR_a (by assumption)) (by omega) (by first | exact nlo_ _ | rfl) (by first | decide | omega) (by first | decide | omega) (fun hk1 s1 h1 => ?_) (fun hk0 s1 h1 => ?_)
        | with_reducible refine q_openp (by assumption) (PR_a (by assumption)) (by omega) (by omega) (by omega) (fun s1 h1 => ?_) (fun hk1 hd1 s1 h1 => ?_)
        | with_reducible refine q_deep (by assumption) (fun hd0 => ?_) (fun hd1 s1 h1 => ?_) (by omega)
        | with_reducible refine q_openq (by assumption) (by omega) (by omega) ?_ (fun hk1 hd1 s1 h1 => ?_)
        | with_reducible refine q_shutS (by assumption) (by omega) (fun s1 e1 t1 => ?_) (fun s1 p1 d1 sc1 h1 hp1 => ?_)
        | with_reducible refine q_shut' (by assumption) (by first | exact nlo_ _ | exact nsb1_ (by omega) | exact nI_1 _ | exact n8_ _ | rfl | exact PR_a (by assumption) | exact PR_o (by assumption) | exact PR_d4 (by assumption) | assumption) (by first | exact nlo_ _ | exact nsb1_ (by omega) | exact nI_1 _ | exact n8_ _ | rfl | exact PR_a (by assumption) | exact PR_o (by assumption) | exact PR_d4 (by assumption) | assumption) (by first | exact nlo_ _ | exact nsb1_ (by omega) | exact nI_1 _ | exact n8_ _ | rfl | exact PR_a (by assumption) | exact PR_o (by assumption) | exact PR_d4 (by assumption) | assumption) (by first | exact nlo_ _ | exact nsb1_ (by omega) | exact nI_1 _ | exact n8_ _ | rfl | exact PR_a (by assumption) | exact PR_o (by assumption) | exact PR_d4 (by assumption) | assumption) (by omega) (by first | decide | omega) (by first | decide | omega) (fun hb1 s1 h1 _ => ?_)
        | with_reducible refine q_leaf' (by assumption) (by first | exact nlo_ _ | exact nsb1_ (by omega) | exact nI_1 _ | exact n8_ _ | rfl | exact PR_a (by assumption) | exact PR_o (by assumption) | exact PR_d4 (by assumption) | assumption) (by first | exact nlo_ _ | exact nsb1_ (by omega) | exact nI_1 _ | exact n8_ _ | rfl | exact PR_a (by assumption) | exact PR_o (by assumption) | exact PR_d4 (by assumption) | assumption) rfl (by omega) (by decide) (by first | decide | omega) (fun s1 h1 => ?_)
        | with_reducible refine q_leafp (by assumption) (PR_a (by assumption)) (by omega) (by first | exact nlo_ _ | exact nsb1_ (by omega) | exact nI_1 _ | exact n8_ _ | rfl | exact PR_a (by assumption) | exact PR_o (by assumption) | exact PR_d4 (by assumption) | assumption) (by first | exact nlo_ _ | exact nsb1_ (by omega) | exact nI_1 _ | exact n8_ _ | rfl | exact PR_a (by assumption) | exact PR_o (by assumption) | exact PR_d4 (by assumption) | assumption) rfl (by omega) (by decide) (by first | decide | omega) (fun s1 h1 => ?_)
        | with_reducible refine q_labels' (by assumption) (by omega) (by omega) (fun s1 os1 p1 n1 el1 h1 => ?_)
        | with_reducible refine q_tqy (by assumption) ?_
        | with_reducible refine q_tqn (by assumption) ?_
        | with_reducible refine q_30 (by assumption) (by omega) (fun s1 h1 => ?_)
        | rw [m_isD _ _ _ (PT_k h.1 _), bI_s]
        | rw [PR_a h2, mm_a_n (by omega) (by decide), Option.bind_some, (h2.1.2.2.1 _ (PT_lt h.1 (by assumption) (by decide))).2]
        | with_reducible refine q_ite (fun hk1 => ?_) (fun hk0 => ?_)
        | contradiction
        | with_reducible exact absurd (And.intro (by assumption) (by assumption)) (by assumption)
        | (exfalso; omega)
        | simp only [hdi, zb_0, Bool.false_eq_true, Bool.true_eq_false, fun q => nk q 1 (by decide), fun q => nk q 10 (by decide), fun q => nk q 11 (by decide), fun q => nk q 15 (by decide), fun q => nk q 25 (by decide), fun q => nk q 47 (by decide), fun q => nk q 49 (by decide), fun q => nk q 50 (by decide), fun q => nk q 52 (by decide), fun q => nk q 53 (by decide), fun q => nk q 54 (by decide), fun q => nk q 57 (by decide), fun q => nk q 61 (by decide), fun q => nk q 62 (by decide), fun q => nk q 63 (by decide), fun q => nk q 64 (by decide), fun q => nk q 65 (by decide), fun q => nk q 66 (by decide), fun q => nk q 67 (by decide), gpT, List.cons_append, List.nil_append, show (0 : Int32) &&& 1 = 0 from rfl, show (1 : Int32) &&& 1 = 1 from rfl, show ¬ ((1 : Int32) = 0) by decide, show ¬ ((0 : Int32) = 1) by decide, if_true, if_false, eq_self_iff_true]
        | split
    rw [if_neg hbg, if_pos (c := bg_ (K p) = false) (by simpa using hbg)]
    refine q_ite (fun hk1 => ?_) (fun hk10 => ?_)
    · repeat' first
        | with_reducible exact q_none
        | with_reducible exact q_ok (by assumption)
        | with_reducible exact q_okd (by assumption) (by omega)
        | with_reducible exact q_fl (by assumption)
        | with_reducible exact q_fl' (by assumption) (by assumption)
        | with_reducible exact q_okp (by assumption) (by omega) (PR_a (by assumption))
        | with_reducible refine q_goal' (by assumption) (by first | exact nlo_ _ | exact nsb1_ (by omega) | exact nI_1 _ | exact n8_ _ | rfl | exact PR_a (by assumption) | exact PR_o (by assumption) | exact PR_d4 (by assumption) | assumption) (by first | exact nlo_ _ | exact nsb1_ (by omega) | exact nI_1 _ | exact n8_ _ | rfl | exact PR_a (by assumption) | exact PR_o (by assumption) | exact PR_d4 (by assumption) | assumption) (by first | exact nlo_ _ | exact nsb1_ (by omega) | exact nI_1 _ | exact n8_ _ | rfl | exact PR_a (by assumption) | exact PR_o (by assumption) | exact PR_d4 (by assumption) | assumption) (by first | exact nlo_ _ | exact nsb1_ (by omega) | exact nI_1 _ | exact n8_ _ | rfl | exact PR_a (by assumption) | exact PR_o (by assumption) | exact PR_d4 (by assumption) | assumption) (by first | omega | (simp only [List.length_cons]; omega)) ⟨by first | decide | omega, by first | decide | omega, by first | decide | omega, by first | decide | omega⟩ (fun s1 h1 => ?_)
        | with_reducible refine q_goalp (by assumption) (PR_a (by assumption)) (by omega) (by first | exact nlo_ _ | exact nsb1_ (by omega) | exact nI_1 _ | exact n8_ _ | rfl | exact PR_a (by assumption) | exact PR_o (by assumption) | exact PR_d4 (by assumption) | assumption) (by first | exact nlo_ _ | exact nsb1_ (by omega) | exact nI_1 _ | exact n8_ _ | rfl | exact PR_a (by assumption) | exact PR_o (by assumption) | exact PR_d4 (by assumption) | assumption) (by first | exact nlo_ _ | exact nsb1_ (by omega) | exact nI_1 _ | exact n8_ _ | rfl | exact PR_a (by assumption) | exact PR_o (by assumption) | exact PR_d4 (by assumption) | assumption) (by first | exact nlo_ _ | exact nsb1_ (by omega) | exact nI_1 _ | exact n8_ _ | rfl | exact PR_a (by assumption) | exact PR_o (by assumption) | exact PR_d4 (by assumption) | assumption) (by first | omega | (simp only [List.length_cons]; omega)) ⟨by first | decide | omega, by first | decide | omega, by first | decide | omega, by first | decide | omega⟩ (fun s1 h1 => ?_)
        | with_reducible refine q_tk (by assumption) ?_
        | with_reducible refine q_tkp (by assumption) (PR_a (by assumption)) (by omega) (fun s1 h1 => ?_)
        | with_reducible refine q_takeq (by assumption) (by first | exact nlo_ _ | rfl) (by first | decide | omega) (by first | decide | omega) (fun hk1 s1 h1 => ?_) ?_
        | with_reducible refine q_take' (by assumption) (by first | exact nlo_ _ | rfl) (by first | decide | omega) (by first | decide | omega) (fun hk1 s1 h1 => ?_) (fun hk0 => ?_)
        | with_reducible refine q_takep (by assumption) (PR_a (by assumption)) (by omega) (by first | exact nlo_ _ | rfl) (by first | decide | omega) (by first | decide | omega) (fun hk1 s1 h1 => ?_) (fun hk0 s1 h1 => ?_)
        | with_reducible refine q_openp (by assumption) (PR_a (by assumption)) (by omega) (by omega) (by omega) (fun s1 h1 => ?_) (fun hk1 hd1 s1 h1 => ?_)
        | with_reducible refine q_deep (by assumption) (fun hd0 => ?_) (fun hd1 s1 h1 => ?_) (by omega)
        | with_reducible refine q_openq (by assumption) (by omega) (by omega) ?_ (fun hk1 hd1 s1 h1 => ?_)
        | with_reducible refine q_shutS (by assumption) (by omega) (fun s1 e1 t1 => ?_) (fun s1 p1 d1 sc1 h1 hp1 => ?_)
        | with_reducible refine q_shut' (by assumption) (by first | exact nlo_ _ | exact nsb1_ (by omega) | exact nI_1 _ | exact n8_ _ | rfl | exact PR_a (by assumption) | exact PR_o (by assumption) | exact PR_d4 (by assumption) | assumption) (by first | exact nlo_ _ | exact nsb1_ (by omega) | exact nI_1 _ | exact n8_ _ | rfl | exact PR_a (by assumption) | exact PR_o (by assumption) | exact PR_d4 (by assumption) | assumption) (by first | exact nlo_ _ | exact nsb1_ (by omega) | exact nI_1 _ | exact n8_ _ | rfl | exact PR_a (by assumption) | exact PR_o (by assumption) | exact PR_d4 (by assumption) | assumption) (by first | exact nlo_ _ | exact nsb1_ (by omega) | exact nI_1 _ | exact n8_ _ | rfl | exact PR_a (by assumption) | exact PR_o (by assumption) | exact PR_d4 (by assumption) | assumption) (by omega) (by first | decide | omega) (by first | decide | omega) (fun hb1 s1 h1 _ => ?_)
        | with_reducible refine q_leaf' (by assumption) (by first | exact nlo_ _ | exact nsb1_ (by omega) | exact nI_1 _ | exact n8_ _ | rfl | exact PR_a (by assumption) | exact PR_o (by assumption) | exact PR_d4 (by assumption) | assumption) (by first | exact nlo_ _ | exact nsb1_ (by omega) | exact nI_1 _ | exact n8_ _ | rfl | exact PR_a (by assumption) | exact PR_o (by assumption) | exact PR_d4 (by assumption) | assumption) rfl (by omega) (by decide) (by first | decide | omega) (fun s1 h1 => ?_)
        | with_reducible refine q_leafp (by assumption) (PR_a (by assumption)) (by omega) (by first | exact nlo_ _ | exact nsb1_ (by omega) | exact nI_1 _ | exact n8_ _ | rfl | exact PR_a (by assumption) | exact PR_o (by assumption) | exact PR_d4 (by assumption) | assumption) (by first | exact nlo_ _ | exact nsb1_ (by omega) | exact nI_1 _ | exact n8_ _ | rfl | exact PR_a (by assumption) | exact PR_o (by assumption) | exact PR_d4 (by assumption) | assumption) rfl (by omega) (by decide) (by first | decide | omega) (fun s1 h1 => ?_)
        | with_reducible refine q_labels' (by assumption) (by omega) (by omega) (fun s1 os1 p1 n1 el1 h1 => ?_)
        | with_reducible refine q_tqy (by assumption) ?_
        | with_reducible refine q_tqn (by assumption) ?_
        | with_reducible refine q_30 (by assumption) (by omega) (fun s1 h1 => ?_)
        | rw [m_isD _ _ _ (PT_k h.1 _), bI_s]
        | rw [PR_a h2, mm_a_n (by omega) (by decide), Option.bind_some, (h2.1.2.2.1 _ (PT_lt h.1 (by assumption) (by decide))).2]
        | with_reducible refine q_ite (fun hk1 => ?_) (fun hk0 => ?_)
        | contradiction
        | with_reducible exact absurd (And.intro (by assumption) (by assumption)) (by assumption)
        | (exfalso; omega)
        | simp only [hdi, zb_0, Bool.false_eq_true, Bool.true_eq_false, fun q => nk q 1 (by decide), fun q => nk q 10 (by decide), fun q => nk q 11 (by decide), fun q => nk q 15 (by decide), fun q => nk q 25 (by decide), fun q => nk q 47 (by decide), fun q => nk q 49 (by decide), fun q => nk q 50 (by decide), fun q => nk q 52 (by decide), fun q => nk q 53 (by decide), fun q => nk q 54 (by decide), fun q => nk q 57 (by decide), fun q => nk q 61 (by decide), fun q => nk q 62 (by decide), fun q => nk q 63 (by decide), fun q => nk q 64 (by decide), fun q => nk q 65 (by decide), fun q => nk q 66 (by decide), fun q => nk q 67 (by decide), gpT, List.cons_append, List.nil_append, show (0 : Int32) &&& 1 = 0 from rfl, show (1 : Int32) &&& 1 = 1 from rfl, show ¬ ((1 : Int32) = 0) by decide, show ¬ ((0 : Int32) = 1) by decide, if_true, if_false, eq_self_iff_true]
        | split
    rw [PR_a h1, nI_1]
    have h2 := PR_p h1 (p + 1) (by omega)
    generalize mm_u s1 0 43 (nI (p + 1)) = s2 at h2 ⊢
    refine q_ite (fun hk1 => ?_) (fun hk61 => ?_)
    · rw [mj_command_156, if_neg (by decide)]
      repeat' first
        | with_reducible exact q_none
        | with_reducible exact q_ok (by assumption)
        | with_reducible exact q_okd (by assumption) (by omega)
        | with_reducible exact q_fl (by assumption)
        | with_reducible exact q_fl' (by assumption) (by assumption)
        | with_reducible exact q_okp (by assumption) (by omega) (PR_a (by assumption))
        | with_reducible refine q_goal' (by assumption) (by first | exact nlo_ _ | exact nsb1_ (by omega) | exact nI_1 _ | exact n8_ _ | rfl | exact PR_a (by assumption) | exact PR_o (by assumption) | exact PR_d4 (by assumption) | assumption) (by first | exact nlo_ _ | exact nsb1_ (by omega) | exact nI_1 _ | exact n8_ _ | rfl | exact PR_a (by assumption) | exact PR_o (by assumption) | exact PR_d4 (by assumption) | assumption) (by first | exact nlo_ _ | exact nsb1_ (by omega) | exact nI_1 _ | exact n8_ _ | rfl | exact PR_a (by assumption) | exact PR_o (by assumption) | exact PR_d4 (by assumption) | assumption) (by first | exact nlo_ _ | exact nsb1_ (by omega) | exact nI_1 _ | exact n8_ _ | rfl | exact PR_a (by assumption) | exact PR_o (by assumption) | exact PR_d4 (by assumption) | assumption) (by first | omega | (simp only [List.length_cons]; omega)) ⟨by first | decide | omega, by first | decide | omega, by first | decide | omega, by first | decide | omega⟩ (fun s1 h1 => ?_)
        | with_reducible refine q_goalp (by assumption) (PR_a (by assumption)) (by omega) (by first | exact nlo_ _ | exact nsb1_ (by omega) | exact nI_1 _ | exact n8_ _ | rfl | exact PR_a (by assumption) | exact PR_o (by assumption) | exact PR_d4 (by assumption) | assumption) (by first | exact nlo_ _ | exact nsb1_ (by omega) | exact nI_1 _ | exact n8_ _ | rfl | exact PR_a (by assumption) | exact PR_o (by assumption) | exact PR_d4 (by assumption) | assumption) (by first | exact nlo_ _ | exact nsb1_ (by omega) | exact nI_1 _ | exact n8_ _ | rfl | exact PR_a (by assumption) | exact PR_o (by assumption) | exact PR_d4 (by assumption) | assumption) (by first | exact nlo_ _ | exact nsb1_ (by omega) | exact nI_1 _ | exact n8_ _ | rfl | exact PR_a (by assumption) | exact PR_o (by assumption) | exact PR_d4 (by assumption) | assumption) (by first | omega | (simp only [List.length_cons]; omega)) ⟨by first | decide | omega, by first | decide | omega, by first | decide | omega, by first | decide | omega⟩ (fun s1 h1 => ?_)
        | with_reducible refine q_tk (by assumption) ?_
        | with_reducible refine q_tkp (by assumption) (PR_a (by assumption)) (by omega) (fun s1 h1 => ?_)
        | with_reducible refine q_takeq (by assumption) (by first | exact nlo_ _ | rfl) (by first | decide | omega) (by first | decide | omega) (fun hk1 s1 h1 => ?_) ?_
        | with_reducible refine q_take' (by assumption) (by first | exact nlo_ _ | rfl) (by first | decide | omega) (by first | decide | omega) (fun hk1 s1 h1 => ?_) (fun hk0 => ?_)
        | with_reducible refine q_takep (by assumption) (PR_a (by assumption)) (by omega) (by first | exact nlo_ _ | rfl) (by first | decide | omega) (by first | decide | omega) (fun hk1 s1 h1 => ?_) (fun hk0 s1 h1 => ?_)
        | with_reducible refine q_openp (by assumption) (PR_a (by assumption)) (by omega) (by omega) (by omega) (fun s1 h1 => ?_) (fun hk1 hd1 s1 h1 => ?_)
        | with_reducible refine q_deep (by assumption) (fun hd0 => ?_) (fun hd1 s1 h1 => ?_) (by omega)
        | with_reducible refine q_openq (by assumption) (by omega) (by omega) ?_ (fun hk1 hd1 s1 h1 => ?_)
        | with_reducible refine q_shutS (by assumption) (by omega) (fun s1 e1 t1 => ?_) (fun s1 p1 d1 sc1 h1 hp1 => ?_)
        | with_reducible refine q_shut' (by assumption) (by first | exact nlo_ _ | exact nsb1_ (by omega) | exact nI_1 _ | exact n8_ _ | rfl | exact PR_a (by assumption) | exact PR_o (by assumption) | exact PR_d4 (by assumption) | assumption) (by first | exact nlo_ _ | exact nsb1_ (by omega) | exact nI_1 _ | exact n8_ _ | rfl | exact PR_a (by assumption) | exact PR_o (by assumption) | exact PR_d4 (by assumption) | assumption) (by first | exact nlo_ _ | exact nsb1_ (by omega) | exact nI_1 _ | exact n8_ _ | rfl | exact PR_a (by assumption) | exact PR_o (by assumption) | exact PR_d4 (by assumption) | assumption) (by first | exact nlo_ _ | exact nsb1_ (by omega) | exact nI_1 _ | exact n8_ _ | rfl | exact PR_a (by assumption) | exact PR_o (by assumption) | exact PR_d4 (by assumption) | assumption) (by omega) (by first | decide | omega) (by first | decide | omega) (fun hb1 s1 h1 _ => ?_)
        | with_reducible refine q_leaf' (by assumption) (by first | exact nlo_ _ | exact nsb1_ (by omega) | exact nI_1 _ | exact n8_ _ | rfl | exact PR_a (by assumption) | exact PR_o (by assumption) | exact PR_d4 (by assumption) | assumption) (by first | exact nlo_ _ | exact nsb1_ (by omega) | exact nI_1 _ | exact n8_ _ | rfl | exact PR_a (by assumption) | exact PR_o (by assumption) | exact PR_d4 (by assumption) | assumption) rfl (by omega) (by decide) (by first | decide | omega) (fun s1 h1 => ?_)
        | with_reducible refine q_leafp (by assumption) (PR_a (by assumption)) (by omega) (by first | exact nlo_ _ | exact nsb1_ (by omega) | exact nI_1 _ | exact n8_ _ | rfl | exact PR_a (by assumption) | exact PR_o (by assumption) | exact PR_d4 (by assumption) | assumption) (by first | exact nlo_ _ | exact nsb1_ (by omega) | exact nI_1 _ | exact n8_ _ | rfl | exact PR_a (by assumption) | exact PR_o (by assumption) | exact PR_d4 (by assumption) | assumption) rfl (by omega) (by decide) (by first | decide | omega) (fun s1 h1 => ?_)
        | with_reducible refine q_labels' (by assumption) (by omega) (by omega) (fun s1 os1 p1 n1 el1 h1 => ?_)
        | with_reducible refine q_tqy (by assumption) ?_
        | with_reducible refine q_tqn (by assumption) ?_
        | with_reducible refine q_30 (by assumption) (by omega) (fun s1 h1 => ?_)
        | rw [m_isD _ _ _ (PT_k h.1 _), bI_s]
        | rw [PR_a h2, mm_a_n (by omega) (by decide), Option.bind_some, (h2.1.2.2.1 _ (PT_lt h.1 (by assumption) (by decide))).2]
        | with_reducible refine q_ite (fun hk1 => ?_) (fun hk0 => ?_)
        | contradiction
        | with_reducible exact absurd (And.intro (by assumption) (by assumption)) (by assumption)
        | (exfalso; omega)
        | simp only [hdi, zb_0, Bool.false_eq_true, Bool.true_eq_false, fun q => nk q 1 (by decide), fun q => nk q 10 (by decide), fun q => nk q 11 (by decide), fun q => nk q 15 (by decide), fun q => nk q 25 (by decide), fun q => nk q 47 (by decide), fun q => nk q 49 (by decide), fun q => nk q 50 (by decide), fun q => nk q 52 (by decide), fun q => nk q 53 (by decide), fun q => nk q 54 (by decide), fun q => nk q 57 (by decide), fun q => nk q 61 (by decide), fun q => nk q 62 (by decide), fun q => nk q 63 (by decide), fun q => nk q 64 (by decide), fun q => nk q 65 (by decide), fun q => nk q 66 (by decide), fun q => nk q 67 (by decide), gpT, List.cons_append, List.nil_append, show (0 : Int32) &&& 1 = 0 from rfl, show (1 : Int32) &&& 1 = 1 from rfl, show ¬ ((1 : Int32) = 0) by decide, show ¬ ((0 : Int32) = 1) by decide, if_true, if_false, eq_self_iff_true]
        | split
    refine q_ite (fun hk1 => ?_) (fun hk62 => ?_)
    · rw [mj_command_156, if_neg (by decide)]
      repeat' first
        | with_reducible exact q_none
        | with_reducible exact q_ok (by assumption)
        | with_reducible exact q_okd (by assumption) (by omega)
        | with_reducible exact q_fl (by assumption)
        | with_reducible exact q_fl' (by assumption) (by assumption)
        | with_reducible exact q_okp (by assumption) (by omega) (PR_a (by assumption))
        | with_reducible refine q_goal' (by assumption) (by first | exact nlo_ _ | exact nsb1_ (by omega) | exact nI_1 _ | exact n8_ _ | rfl | exact PR_a (by assumption) | exact PR_o (by assumption) | exact PR_d4 (by assumption) | assumption) (by first | exact nlo_ _ | exact nsb1_ (by omega) | exact nI_1 _ | exact n8_ _ | rfl | exact PR_a (by assumption) | exact PR_o (by assumption) | exact PR_d4 (by assumption) | assumption) (by first | exact nlo_ _ | exact nsb1_ (by omega) | exact nI_1 _ | exact n8_ _ | rfl | exact PR_a (by assumption) | exact PR_o (by assumption) | exact PR_d4 (by assumption) | assumption) (by first | exact nlo_ _ | exact nsb1_ (by omega) | exact nI_1 _ | exact n8_ _ | rfl | exact PR_a (by assumption) | exact PR_o (by assumption) | exact PR_d4 (by assumption) | assumption) (by first | omega | (simp only [List.length_cons]; omega)) ⟨by first | decide | omega, by first | decide | omega, by first | decide | omega, by first | decide | omega⟩ (fun s1 h1 => ?_)
        | with_reducible refine q_goalp (by assumption) (PR_a (by assumption)) (by omega) (by first | exact nlo_ _ | exact nsb1_ (by omega) | exact nI_1 _ | exact n8_ _ | rfl | exact PR_a (by assumption) | exact PR_o (by assumption) | exact PR_d4 (by assumption) | assumption) (by first | exact nlo_ _ | exact nsb1_ (by omega) | exact nI_1 _ | exact n8_ _ | rfl | exact PR_a (by assumption) | exact PR_o (by assumption) | exact PR_d4 (by assumption) | assumption) (by first | exact nlo_ _ | exact nsb1_ (by omega) | exact nI_1 _ | exact n8_ _ | rfl | exact PR_a (by assumption) | exact PR_o (by assumption) | exact PR_d4 (by assumption) | assumption) (by first | exact nlo_ _ | exact nsb1_ (by omega) | exact nI_1 _ | exact n8_ _ | rfl | exact PR_a (by assumption) | exact PR_o (by assumption) | exact PR_d4 (by assumption) | assumption) (by first | omega | (simp only [List.length_cons]; omega)) ⟨by first | decide | omega, by first | decide | omega, by first | decide | omega, by first | decide | omega⟩ (fun s1 h1 => ?_)
        | with_reducible refine q_tk (by assumption) ?_
        | with_reducible refine q_tkp (by assumption) (PR_a (by assumption)) (by omega) (fun s1 h1 => ?_)
        | with_reducible refine q_takeq (by assumption) (by first | exact nlo_ _ | rfl) (by first | decide | omega) (by first | decide | omega) (fun hk1 s1 h1 => ?_) ?_
        | with_reducible refine q_take' (by assumption) (by first | exact nlo_ _ | rfl) (by first | decide | omega) (by first | decide | omega) (fun hk1 s1 h1 => ?_) (fun hk0 => ?_)
        | with_reducible refine q_takep (by assumption) (PR_a (by assumption)) (by omega) (by first | exact nlo_ _ | rfl) (by first | decide | omega) (by first | decide | omega) (fun hk1 s1 h1 => ?_) (fun hk0 s1 h1 => ?_)
        | with_reducible refine q_openp (by assumption) (PR_a (by assumption)) (by omega) (by omega) (by omega) (fun s1 h1 => ?_) (fun hk1 hd1 s1 h1 => ?_)
        | with_reducible refine q_deep (by assumption) (fun hd0 => ?_) (fun hd1 s1 h1 => ?_) (by omega)
        | with_reducible refine q_openq (by assumption) (by omega) (by omega) ?_ (fun hk1 hd1 s1 h1 => ?_)
        | with_reducible refine q_shutS (by assumption) (by omega) (fun s1 e1 t1 => ?_) (fun s1 p1 d1 sc1 h1 hp1 => ?_)
        | with_reducible refine q_shut' (by assumption) (by first | exact nlo_ _ | exact nsb1_ (by omega) | exact nI_1 _ | exact n8_ _ | rfl | exact PR_a (by assumption) | exact PR_o (by assumption) | exact PR_d4 (by assumption) | assumption) (by first | exact nlo_ _ | exact nsb1_ (by omega) | exact nI_1 _ | exact n8_ _ | rfl | exact PR_a (by assumption) | exact PR_o (by assumption) | exact PR_d4 (by assumption) | assumption) (by first | exact nlo_ _ | exact nsb1_ (by omega) | exact nI_1 _ | exact n8_ _ | rfl | exact PR_a (by assumption) | exact PR_o (by assumption) | exact PR_d4 (by assumption) | assumption) (by first | exact nlo_ _ | exact nsb1_ (by omega) | exact nI_1 _ | exact n8_ _ | rfl | exact PR_a (by assumption) | exact PR_o (by assumption) | exact PR_d4 (by assumption) | assumption) (by omega) (by first | decide | omega) (by first | decide | omega) (fun hb1 s1 h1 _ => ?_)
        | with_reducible refine q_leaf' (by assumption) (by first | exact nlo_ _ | exact nsb1_ (by omega) | exact nI_1 _ | exact n8_ _ | rfl | exact PR_a (by assumption) | exact PR_o (by assumption) | exact PR_d4 (by assumption) | assumption) (by first | exact nlo_ _ | exact nsb1_ (by omega) | exact nI_1 _ | exact n8_ _ | rfl | exact PR_a (by assumption) | exact PR_o (by assumption) | exact PR_d4 (by assumption) | assumption) rfl (by omega) (by decide) (by first | decide | omega) (fun s1 h1 => ?_)
        | with_reducible refine q_leafp (by assumption) (PR_a (by assumption)) (by omega) (by first | exact nlo_ _ | exact nsb1_ (by omega) | exact nI_1 _ | exact n8_ _ | rfl | exact PR_a (by assumption) | exact PR_o (by assumption) | exact PR_d4 (by assumption) | assumption) (by first | exact nlo_ _ | exact nsb1_ (by omega) | exact nI_1 _ | exact n8_ _ | rfl | exact PR_a (by assumption) | exact PR_o (by assumption) | exact PR_d4 (by assumption) | assumption) rfl (by omega) (by decide) (by first | decide | omega) (fun s1 h1 => ?_)
        | with_reducible refine q_labels' (by assumption) (by omega) (by omega) (fun s1 os1 p1 n1 el1 h1 => ?_)
        | with_reducible refine q_tqy (by assumption) ?_
        | with_reducible refine q_tqn (by assumption) ?_
        | with_reducible refine q_30 (by assumption) (by omega) (fun s1 h1 => ?_)
        | rw [m_isD _ _ _ (PT_k h.1 _), bI_s]
        | rw [PR_a h2, mm_a_n (by omega) (by decide), Option.bind_some, (h2.1.2.2.1 _ (PT_lt h.1 (by assumption) (by decide))).2]
        | with_reducible refine q_ite (fun hk1 => ?_) (fun hk0 => ?_)
        | contradiction
        | with_reducible exact absurd (And.intro (by assumption) (by assumption)) (by assumption)
        | (exfalso; omega)
        | simp only [hdi, zb_0, Bool.false_eq_true, Bool.true_eq_false, fun q => nk q 1 (by decide), fun q => nk q 10 (by decide), fun q => nk q 11 (by decide), fun q => nk q 15 (by decide), fun q => nk q 25 (by decide), fun q => nk q 47 (by decide), fun q => nk q 49 (by decide), fun q => nk q 50 (by decide), fun q => nk q 52 (by decide), fun q => nk q 53 (by decide), fun q => nk q 54 (by decide), fun q => nk q 57 (by decide), fun q => nk q 61 (by decide), fun q => nk q 62 (by decide), fun q => nk q 63 (by decide), fun q => nk q 64 (by decide), fun q => nk q 65 (by decide), fun q => nk q 66 (by decide), fun q => nk q 67 (by decide), gpT, List.cons_append, List.nil_append, show (0 : Int32) &&& 1 = 0 from rfl, show (1 : Int32) &&& 1 = 1 from rfl, show ¬ ((1 : Int32) = 0) by decide, show ¬ ((0 : Int32) = 1) by decide, if_true, if_false, eq_self_iff_true]
        | split
    refine q_ite (fun hk1 => ?_) (fun hk63 => ?_)
    · rw [mj_command_156, if_neg (by decide)]
      repeat' first
        | with_reducible exact q_none
        | with_reducible exact q_ok (by assumption)
        | with_reducible exact q_okd (by assumption) (by omega)
        | with_reducible exact q_fl (by assumption)
        | with_reducible exact q_fl' (by assumption) (by assumption)
        | with_reducible exact q_okp (by assumption) (by omega) (PR_a (by assumption))
        | with_reducible refine q_goal' (by assumption) (by first | exact nlo_ _ | exact nsb1_ (by omega) | exact nI_1 _ | exact n8_ _ | rfl | exact PR_a (by assumption) | exact PR_o (by assumption) | exact PR_d4 (by assumption) | assumption) (by first | exact nlo_ _ | exact nsb1_ (by omega) | exact nI_1 _ | exact n8_ _ | rfl | exact PR_a (by assumption) | exact PR_o (by assumption) | exact PR_d4 (by assumption) | assumption) (by first | exact nlo_ _ | exact nsb1_ (by omega) | exact nI_1 _ | exact n8_ _ | rfl | exact PR_a (by assumption) | exact PR_o (by assumption) | exact PR_d4 (by assumption) | assumption) (by first | exact nlo_ _ | exact nsb1_ (by omega) | exact nI_1 _ | exact n8_ _ | rfl | exact PR_a (by assumption) | exact PR_o (by assumption) | exact PR_d4 (by assumption) | assumption) (by first | omega | (simp only [List.length_cons]; omega)) ⟨by first | decide | omega, by first | decide | omega, by first | decide | omega, by first | decide | omega⟩ (fun s1 h1 => ?_)
        | with_reducible refine q_goalp (by assumption) (PR_a (by assumption)) (by omega) (by first | exact nlo_ _ | exact nsb1_ (by omega) | exact nI_1 _ | exact n8_ _ | rfl | exact PR_a (by assumption) | exact PR_o (by assumption) | exact PR_d4 (by assumption) | assumption) (by first | exact nlo_ _ | exact nsb1_ (by omega) | exact nI_1 _ | exact n8_ _ | rfl | exact PR_a (by assumption) | exact PR_o (by assumption) | exact PR_d4 (by assumption) | assumption) (by first | exact nlo_ _ | exact nsb1_ (by omega) | exact nI_1 _ | exact n8_ _ | rfl | exact PR_a (by assumption) | exact PR_o (by assumption) | exact PR_d4 (by assumption) | assumption) (by first | exact nlo_ _ | exact nsb1_ (by omega) | exact nI_1 _ | exact n8_ _ | rfl | exact PR_a (by assumption) | exact PR_o (by assumption) | exact PR_d4 (by assumption) | assumption) (by first | omega | (simp only [List.length_cons]; omega)) ⟨by first | decide | omega, by first | decide | omega, by first | decide | omega, by first | decide | omega⟩ (fun s1 h1 => ?_)
        | with_reducible refine q_tk (by assumption) ?_
        | with_reducible refine q_tkp (by assumption) (PR_a (by assumption)) (by omega) (fun s1 h1 => ?_)
        | with_reducible refine q_takeq (by assumption) (by first | exact nlo_ _ | rfl) (by first | decide | omega) (by first | decide | omega) (fun hk1 s1 h1 => ?_) ?_
        | with_reducible refine q_take' (by assumption) (by first | exact nlo_ _ | rfl) (by first | decide | omega) (by first | decide | omega) (fun hk1 s1 h1 => ?_) (fun hk0 => ?_)
        | with_reducible refine q_takep (by assumption) (PR_a (by assumption)) (by omega) (by first | exact nlo_ _ | rfl) (by first | decide | omega) (by first | decide | omega) (fun hk1 s1 h1 => ?_) (fun hk0 s1 h1 => ?_)
        | with_reducible refine q_openp (by assumption) (PR_a (by assumption)) (by omega) (by omega) (by omega) (fun s1 h1 => ?_) (fun hk1 hd1 s1 h1 => ?_)
        | with_reducible refine q_deep (by assumption) (fun hd0 => ?_) (fun hd1 s1 h1 => ?_) (by omega)
        | with_reducible refine q_openq (by assumption) (by omega) (by omega) ?_ (fun hk1 hd1 s1 h1 => ?_)
        | with_reducible refine q_shutS (by assumption) (by omega) (fun s1 e1 t1 => ?_) (fun s1 p1 d1 sc1 h1 hp1 => ?_)
        | with_reducible refine q_shut' (by assumption) (by first | exact nlo_ _ | exact nsb1_ (by omega) | exact nI_1 _ | exact n8_ _ | rfl | exact PR_a (by assumption) | exact PR_o (by assumption) | exact PR_d4 (by assumption) | assumption) (by first | exact nlo_ _ | exact nsb1_ (by omega) | exact nI_1 _ | exact n8_ _ | rfl | exact PR_a (by assumption) | exact PR_o (by assumption) | exact PR_d4 (by assumption) | assumption) (by first | exact nlo_ _ | exact nsb1_ (by omega) | exact nI_1 _ | exact n8_ _ | rfl | exact PR_a (by assumption) | exact PR_o (by assumption) | exact PR_d4 (by assumption) | assumption) (by first | exact nlo_ _ | exact nsb1_ (by omega) | exact nI_1 _ | exact n8_ _ | rfl | exact PR_a (by assumption) | exact PR_o (by assumption) | exact PR_d4 (by assumption) | assumption) (by omega) (by first | decide | omega) (by first | decide | omega) (fun hb1 s1 h1 _ => ?_)
        | with_reducible refine q_leaf' (by assumption) (by first | exact nlo_ _ | exact nsb1_ (by omega) | exact nI_1 _ | exact n8_ _ | rfl | exact PR_a (by assumption) | exact PR_o (by assumption) | exact PR_d4 (by assumption) | assumption) (by first | exact nlo_ _ | exact nsb1_ (by omega) | exact nI_1 _ | exact n8_ _ | rfl | exact PR_a (by assumption) | exact PR_o (by assumption) | exact PR_d4 (by assumption) | assumption) rfl (by omega) (by decide) (by first | decide | omega) (fun s1 h1 => ?_)
        | with_reducible refine q_leafp (by assumption) (PR_a (by assumption)) (by omega) (by first | exact nlo_ _ | exact nsb1_ (by omega) | exact nI_1 _ | exact n8_ _ | rfl | exact PR_a (by assumption) | exact PR_o (by assumption) | exact PR_d4 (by assumption) | assumption) (by first | exact nlo_ _ | exact nsb1_ (by omega) | exact nI_1 _ | exact n8_ _ | rfl | exact PR_a (by assumption) | exact PR_o (by assumption) | exact PR_d4 (by assumption) | assumption) rfl (by omega) (by decide) (by first | decide | omega) (fun s1 h1 => ?_)
        | with_reducible refine q_labels' (by assumption) (by omega) (by omega) (fun s1 os1 p1 n1 el1 h1 => ?_)
        | with_reducible refine q_tqy (by assumption) ?_
        | with_reducible refine q_tqn (by assumption) ?_
        | with_reducible refine q_30 (by assumption) (by omega) (fun s1 h1 => ?_)
        | rw [m_isD _ _ _ (PT_k h.1 _), bI_s]
        | rw [PR_a h2, mm_a_n (by omega) (by decide), Option.bind_some, (h2.1.2.2.1 _ (PT_lt h.1 (by assumption) (by decide))).2]
        | with_reducible refine q_ite (fun hk1 => ?_) (fun hk0 => ?_)
        | contradiction
        | with_reducible exact absurd (And.intro (by assumption) (by assumption)) (by assumption)
        | (exfalso; omega)
        | simp only [hdi, zb_0, Bool.false_eq_true, Bool.true_eq_false, fun q => nk q 1 (by decide), fun q => nk q 10 (by decide), fun q => nk q 11 (by decide), fun q => nk q 15 (by decide), fun q => nk q 25 (by decide), fun q => nk q 47 (by decide), fun q => nk q 49 (by decide), fun q => nk q 50 (by decide), fun q => nk q 52 (by decide), fun q => nk q 53 (by decide), fun q => nk q 54 (by decide), fun q => nk q 57 (by decide), fun q => nk q 61 (by decide), fun q => nk q 62 (by decide), fun q => nk q 63 (by decide), fun q => nk q 64 (by decide), fun q => nk q 65 (by decide), fun q => nk q 66 (by decide), fun q => nk q 67 (by decide), gpT, List.cons_append, List.nil_append, show (0 : Int32) &&& 1 = 0 from rfl, show (1 : Int32) &&& 1 = 1 from rfl, show ¬ ((1 : Int32) = 0) by decide, show ¬ ((0 : Int32) = 1) by decide, if_true, if_false, eq_self_iff_true]
        | split
    refine q_ite (fun hk1 => ?_) (fun hk64 => ?_)
    · rw [mj_command_156, if_neg (by decide)]
      repeat' first
        | with_reducible exact q_none
        | with_reducible exact q_ok (by assumption)
        | with_reducible exact q_okd (by assumption) (by omega)
        | with_reducible exact q_fl (by assumption)
        | with_reducible exact q_fl' (by assumption) (by assumption)
        | with_reducible exact q_okp (by assumption) (by omega) (PR_a (by assumption))
        | with_reducible refine q_goal' (by assumption) (by first | exact nlo_ _ | exact nsb1_ (by omega) | exact nI_1 _ | exact n8_ _ | rfl | exact PR_a (by assumption) | exact PR_o (by assumption) | exact PR_d4 (by assumption) | assumption) (by first | exact nlo_ _ | exact nsb1_ (by omega) | exact nI_1 _ | exact n8_ _ | rfl | exact PR_a (by assumption) | exact PR_o (by assumption) | exact PR_d4 (by assumption) | assumption) (by first | exact nlo_ _ | exact nsb1_ (by omega) | exact nI_1 _ | exact n8_ _ | rfl | exact PR_a (by assumption) | exact PR_o (by assumption) | exact PR_d4 (by assumption) | assumption) (by first | exact nlo_ _ | exact nsb1_ (by omega) | exact nI_1 _ | exact n8_ _ | rfl | exact PR_a (by assumption) | exact PR_o (by assumption) | exact PR_d4 (by assumption) | assumption) (by first | omega | (simp only [List.length_cons]; omega)) ⟨by first | decide | omega, by first | decide | omega, by first | decide | omega, by first | decide | omega⟩ (fun s1 h1 => ?_)
        | with_reducible refine q_goalp (by assumption) (PR_a (by assumption)) (by omega) (by first | exact nlo_ _ | exact nsb1_ (by omega) | exact nI_1 _ | exact n8_ _ | rfl | exact PR_a (by assumption) | exact PR_o (by assumption) | exact PR_d4 (by assumption) | assumption) (by first | exact nlo_ _ | exact nsb1_ (by omega) | exact nI_1 _ | exact n8_ _ | rfl | exact PR_a (by assumption) | exact PR_o (by assumption) | exact PR_d4 (by assumption) | assumption) (by first | exact nlo_ _ | exact nsb1_ (by omega) | exact nI_1 _ | exact n8_ _ | rfl | exact PR_a (by assumption) | exact PR_o (by assumption) | exact PR_d4 (by assumption) | assumption) (by first | exact nlo_ _ | exact nsb1_ (by omega) | exact nI_1 _ | exact n8_ _ | rfl | exact PR_a (by assumption) | exact PR_o (by assumption) | exact PR_d4 (by assumption) | assumption) (by first | omega | (simp only [List.length_cons]; omega)) ⟨by first | decide | omega, by first | decide | omega, by first | decide | omega, by first | decide | omega⟩ (fun s1 h1 => ?_)
        | with_reducible refine q_tk (by assumption) ?_
        | with_reducible refine q_tkp (by assumption) (PR_a (by assumption)) (by omega) (fun s1 h1 => ?_)
        | with_reducible refine q_takeq (by assumption) (by first | exact nlo_ _ | rfl) (by first | decide | omega) (by first | decide | omega) (fun hk1 s1 h1 => ?_) ?_
        | with_reducible refine q_take' (by assumption) (by first | exact nlo_ _ | rfl) (by first | decide | omega) (by first | decide | omega) (fun hk1 s1 h1 => ?_) (fun hk0 => ?_)
        | with_reducible refine q_takep (by assumption) (PR_a (by assumption)) (by omega) (by first | exact nlo_ _ | rfl) (by first | decide | omega) (by first | decide | omega) (fun hk1 s1 h1 => ?_) (fun hk0 s1 h1 => ?_)
        | with_reducible refine q_openp (by assumption) (PR_a (by assumption)) (by omega) (by omega) (by omega) (fun s1 h1 => ?_) (fun hk1 hd1 s1 h1 => ?_)
        | with_reducible refine q_deep (by assumption) (fun hd0 => ?_) (fun hd1 s1 h1 => ?_) (by omega)
        | with_reducible refine q_openq (by assumption) (by omega) (by omega) ?_ (fun hk1 hd1 s1 h1 => ?_)
        | with_reducible refine q_shutS (by assumption) (by omega) (fun s1 e1 t1 => ?_) (fun s1 p1 d1 sc1 h1 hp1 => ?_)
        | with_reducible refine q_shut' (by assumption) (by first | exact nlo_ _ | exact nsb1_ (by omega) | exact nI_1 _ | exact n8_ _ | rfl | exact PR_a (by assumption) | exact PR_o (by assumption) | exact PR_d4 (by assumption) | assumption) (by first | exact nlo_ _ | exact nsb1_ (by omega) | exact nI_1 _ | exact n8_ _ | rfl | exact PR_a (by assumption) | exact PR_o (by assumption) | exact PR_d4 (by assumption) | assumption) (by first | exact nlo_ _ | exact nsb1_ (by omega) | exact nI_1 _ | exact n8_ _ | rfl | exact PR_a (by assumption) | exact PR_o (by assumption) | exact PR_d4 (by assumption) | assumption) (by first | exact nlo_ _ | exact nsb1_ (by omega) | exact nI_1 _ | exact n8_ _ | rfl | exact PR_a (by assumption) | exact PR_o (by assumption) | exact PR_d4 (by assumption) | assumption) (by omega) (by first | decide | omega) (by first | decide | omega) (fun hb1 s1 h1 _ => ?_)
        | with_reducible refine q_leaf' (by assumption) (by first | exact nlo_ _ | exact nsb1_ (by omega) | exact nI_1 _ | exact n8_ _ | rfl | exact PR_a (by assumption) | exact PR_o (by assumption) | exact PR_d4 (by assumption) | assumption) (by first | exact nlo_ _ | exact nsb1_ (by omega) | exact nI_1 _ | exact n8_ _ | rfl | exact PR_a (by assumption) | exact PR_o (by assumption) | exact PR_d4 (by assumption) | assumption) rfl (by omega) (by decide) (by first | decide | omega) (fun s1 h1 => ?_)
        | with_reducible refine q_leafp (by assumption) (PR_a (by assumption)) (by omega) (by first | exact nlo_ _ | exact nsb1_ (by omega) | exact nI_1 _ | exact n8_ _ | rfl | exact PR_a (by assumption) | exact PR_o (by assumption) | exact PR_d4 (by assumption) | assumption) (by first | exact nlo_ _ | exact nsb1_ (by omega) | exact nI_1 _ | exact n8_ _ | rfl | exact PR_a (by assumption) | exact PR_o (by assumption) | exact PR_d4 (by assumption) | assumption) rfl (by omega) (by decide) (by first | decide | omega) (fun s1 h1 => ?_)
        | with_reducible refine q_labels' (by assumption) (by omega) (by omega) (fun s1 os1 p1 n1 el1 h1 => ?_)
        | with_reducible refine q_tqy (by assumption) ?_
        | with_reducible refine q_tqn (by assumption) ?_
        | with_reducible refine q_30 (by assumption) (by omega) (fun s1 h1 => ?_)
        | rw [m_isD _ _ _ (PT_k h.1 _), bI_s]
        | rw [PR_a h2, mm_a_n (by omega) (by decide), Option.bind_some, (h2.1.2.2.1 _ (PT_lt h.1 (by assumption) (by decide))).2]
        | with_reducible refine q_ite (fun hk1 => ?_) (fun hk0 => ?_)
        | contradiction
        | with_reducible exact absurd (And.intro (by assumption) (by assumption)) (by assumption)
        | (exfalso; omega)
        | simp only [hdi, zb_0, Bool.false_eq_true, Bool.true_eq_false, fun q => nk q 1 (by decide), fun q => nk q 10 (by decide), fun q => nk q 11 (by decide), fun q => nk q 15 (by decide), fun q => nk q 25 (by decide), fun q => nk q 47 (by decide), fun q => nk q 49 (by decide), fun q => nk q 50 (by decide), fun q => nk q 52 (by decide), fun q => nk q 53 (by decide), fun q => nk q 54 (by decide), fun q => nk q 57 (by decide), fun q => nk q 61 (by decide), fun q => nk q 62 (by decide), fun q => nk q 63 (by decide), fun q => nk q 64 (by decide), fun q => nk q 65 (by decide), fun q => nk q 66 (by decide), fun q => nk q 67 (by decide), gpT, List.cons_append, List.nil_append, show (0 : Int32) &&& 1 = 0 from rfl, show (1 : Int32) &&& 1 = 1 from rfl, show ¬ ((1 : Int32) = 0) by decide, show ¬ ((0 : Int32) = 1) by decide, if_true, if_false, eq_self_iff_true]
        | split
    refine q_ite (fun hk1 => ?_) (fun hk66 => ?_)
    · rw [mj_command_156, if_neg (by decide)]
      repeat' first
        | with_reducible exact q_none
        | with_reducible exact q_ok (by assumption)
        | with_reducible exact q_okd (by assumption) (by omega)
        | with_reducible exact q_fl (by assumption)
        | with_reducible exact q_fl' (by assumption) (by assumption)
        | with_reducible exact q_okp (by assumption) (by omega) (PR_a (by assumption))
        | with_reducible refine q_goal' (by assumption) (by first | exact nlo_ _ | exact nsb1_ (by omega) | exact nI_1 _ | exact n8_ _ | rfl | exact PR_a (by assumption) | exact PR_o (by assumption) | exact PR_d4 (by assumption) | assumption) (by first | exact nlo_ _ | exact nsb1_ (by omega) | exact nI_1 _ | exact n8_ _ | rfl | exact PR_a (by assumption) | exact PR_o (by assumption) | exact PR_d4 (by assumption) | assumption) (by first | exact nlo_ _ | exact nsb1_ (by omega) | exact nI_1 _ | exact n8_ _ | rfl | exact PR_a (by assumption) | exact PR_o (by assumption) | exact PR_d4 (by assumption) | assumption) (by first | exact nlo_ _ | exact nsb1_ (by omega) | exact nI_1 _ | exact n8_ _ | rfl | exact PR_a (by assumption) | exact PR_o (by assumption) | exact PR_d4 (by assumption) | assumption) (by first | omega | (simp only [List.length_cons]; omega)) ⟨by first | decide | omega, by first | decide | omega, by first | decide | omega, by first | decide | omega⟩ (fun s1 h1 => ?_)
        | with_reducible refine q_goalp (by assumption) (PR_a (by assumption)) (by omega) (by first | exact nlo_ _ | exact nsb1_ (by omega) | exact nI_1 _ | exact n8_ _ | rfl | exact PR_a (by assumption) | exact PR_o (by assumption) | exact PR_d4 (by assumption) | assumption) (by first | exact nlo_ _ | exact nsb1_ (by omega) | exact nI_1 _ | exact n8_ _ | rfl | exact PR_a (by assumption) | exact PR_o (by assumption) | exact PR_d4 (by assumption) | assumption) (by first | exact nlo_ _ | exact nsb1_ (by omega) | exact nI_1 _ | exact n8_ _ | rfl | exact PR_a (by assumption) | exact PR_o (by assumption) | exact PR_d4 (by assumption) | assumption) (by first | exact nlo_ _ | exact nsb1_ (by omega) | exact nI_1 _ | exact n8_ _ | rfl | exact PR_a (by assumption) | exact PR_o (by assumption) | exact PR_d4 (by assumption) | assumption) (by first | omega | (simp only [List.length_cons]; omega)) ⟨by first | decide | omega, by first | decide | omega, by first | decide | omega, by first | decide | omega⟩ (fun s1 h1 => ?_)
        | with_reducible refine q_tk (by assumption) ?_
        | with_reducible refine q_tkp (by assumption) (PR_a (by assumption)) (by omega) (fun s1 h1 => ?_)
        | with_reducible refine q_takeq (by assumption) (by first | exact nlo_ _ | rfl) (by first | decide | omega) (by first | decide | omega) (fun hk1 s1 h1 => ?_) ?_
        | with_reducible refine q_take' (by assumption) (by first | exact nlo_ _ | rfl) (by first | decide | omega) (by first | decide | omega) (fun hk1 s1 h1 => ?_) (fun hk0 => ?_)
        | with_reducible refine q_takep (by assumption) (PR_a (by assumption)) (by omega) (by first | exact nlo_ _ | rfl) (by first | decide | omega) (by first | decide | omega) (fun hk1 s1 h1 => ?_) (fun hk0 s1 h1 => ?_)
        | with_reducible refine q_openp (by assumption) (PR_a (by assumption)) (by omega) (by omega) (by omega) (fun s1 h1 => ?_) (fun hk1 hd1 s1 h1 => ?_)
        | with_reducible refine q_deep (by assumption) (fun hd0 => ?_) (fun hd1 s1 h1 => ?_) (by omega)
        | with_reducible refine q_openq (by assumption) (by omega) (by omega) ?_ (fun hk1 hd1 s1 h1 => ?_)
        | with_reducible refine q_shutS (by assumption) (by omega) (fun s1 e1 t1 => ?_) (fun s1 p1 d1 sc1 h1 hp1 => ?_)
        | with_reducible refine q_shut' (by assumption) (by first | exact nlo_ _ | exact nsb1_ (by omega) | exact nI_1 _ | exact n8_ _ | rfl | exact PR_a (by assumption) | exact PR_o (by assumption) | exact PR_d4 (by assumption) | assumption) (by first | exact nlo_ _ | exact nsb1_ (by omega) | exact nI_1 _ | exact n8_ _ | rfl | exact PR_a (by assumption) | exact PR_o (by assumption) | exact PR_d4 (by assumption) | assumption) (by first | exact nlo_ _ | exact nsb1_ (by omega) | exact nI_1 _ | exact n8_ _ | rfl | exact PR_a (by assumption) | exact PR_o (by assumption) | exact PR_d4 (by assumption) | assumption) (by first | exact nlo_ _ | exact nsb1_ (by omega) | exact nI_1 _ | exact n8_ _ | rfl | exact PR_a (by assumption) | exact PR_o (by assumption) | exact PR_d4 (by assumption) | assumption) (by omega) (by first | decide | omega) (by first | decide | omega) (fun hb1 s1 h1 _ => ?_)
        | with_reducible refine q_leaf' (by assumption) (by first | exact nlo_ _ | exact nsb1_ (by omega) | exact nI_1 _ | exact n8_ _ | rfl | exact PR_a (by assumption) | exact PR_o (by assumption) | exact PR_d4 (by assumption) | assumption) (by first | exact nlo_ _ | exact nsb1_ (by omega) | exact nI_1 _ | exact n8_ _ | rfl | exact PR_a (by assumption) | exact PR_o (by assumption) | exact PR_d4 (by assumption) | assumption) rfl (by omega) (by decide) (by first | decide | omega) (fun s1 h1 => ?_)
        | with_reducible refine q_leafp (by assumption) (PR_a (by assumption)) (by omega) (by first | exact nlo_ _ | exact nsb1_ (by omega) | exact nI_1 _ | exact n8_ _ | rfl | exact PR_a (by assumption) | exact PR_o (by assumption) | exact PR_d4 (by assumption) | assumption) (by first | exact nlo_ _ | exact nsb1_ (by omega) | exact nI_1 _ | exact n8_ _ | rfl | exact PR_a (by assumption) | exact PR_o (by assumption) | exact PR_d4 (by assumption) | assumption) rfl (by omega) (by decide) (by first | decide | omega) (fun s1 h1 => ?_)
        | with_reducible refine q_labels' (by assumption) (by omega) (by omega) (fun s1 os1 p1 n1 el1 h1 => ?_)
        | with_reducible refine q_tqy (by assumption) ?_
        | with_reducible refine q_tqn (by assumption) ?_
        | with_reducible refine q_30 (by assumption) (by omega) (fun s1 h1 => ?_)
        | rw [m_isD _ _ _ (PT_k h.1 _), bI_s]
        | rw [PR_a h2, mm_a_n (by omega) (by decide), Option.bind_some, (h2.1.2.2.1 _ (PT_lt h.1 (by assumption) (by decide))).2]
        | with_reducible refine q_ite (fun hk1 => ?_) (fun hk0 => ?_)
        | contradiction
        | with_reducible exact absurd (And.intro (by assumption) (by assumption)) (by assumption)
        | (exfalso; omega)
        | simp only [hdi, zb_0, Bool.false_eq_true, Bool.true_eq_false, fun q => nk q 1 (by decide), fun q => nk q 10 (by decide), fun q => nk q 11 (by decide), fun q => nk q 15 (by decide), fun q => nk q 25 (by decide), fun q => nk q 47 (by decide), fun q => nk q 49 (by decide), fun q => nk q 50 (by decide), fun q => nk q 52 (by decide), fun q => nk q 53 (by decide), fun q => nk q 54 (by decide), fun q => nk q 57 (by decide), fun q => nk q 61 (by decide), fun q => nk q 62 (by decide), fun q => nk q 63 (by decide), fun q => nk q 64 (by decide), fun q => nk q 65 (by decide), fun q => nk q 66 (by decide), fun q => nk q 67 (by decide), gpT, List.cons_append, List.nil_append, show (0 : Int32) &&& 1 = 0 from rfl, show (1 : Int32) &&& 1 = 1 from rfl, show ¬ ((1 : Int32) = 0) by decide, show ¬ ((0 : Int32) = 1) by decide, if_true, if_false, eq_self_iff_true]
        | split
    rw [mj_command_156, if_pos (c := (-1 : Int32) < 0) (by decide)]
    simp only [fun q => nk q 1 (by decide), fun q => nk q 10 (by decide), fun q => nk q 11 (by decide), fun q => nk q 15 (by decide), fun q => nk q 25 (by decide), fun q => nk q 47 (by decide), fun q => nk q 49 (by decide), fun q => nk q 50 (by decide), fun q => nk q 52 (by decide), fun q => nk q 53 (by decide), fun q => nk q 54 (by decide), fun q => nk q 57 (by decide), fun q => nk q 61 (by decide), fun q => nk q 62 (by decide), fun q => nk q 63 (by decide), fun q => nk q 64 (by decide), fun q => nk q 65 (by decide), fun q => nk q 66 (by decide), fun q => nk q 67 (by decide)]
    refine q_ite (fun hk1 => ?_) (fun hk65 => ?_)
    · repeat' first
        | with_reducible exact q_none
        | with_reducible exact q_ok (by assumption)
        | with_reducible exact q_okd (by assumption) (by omega)
        | with_reducible exact q_fl (by assumption)
        | with_reducible exact q_fl' (by assumption) (by assumption)
        | with_reducible exact q_okp (by assumption) (by omega) (PR_a (by assumption))
        | with_reducible refine q_goal' (by assumption) (by first | exact nlo_ _ | exact nsb1_ (by omega) | exact nI_1 _ | exact n8_ _ | rfl | exact PR_a (by assumption) | exact PR_o (by assumption) | exact PR_d4 (by assumption) | assumption) (by first | exact nlo_ _ | exact nsb1_ (by omega) | exact nI_1 _ | exact n8_ _ | rfl | exact PR_a (by assumption) | exact PR_o (by assumption) | exact PR_d4 (by assumption) | assumption) (by first | exact nlo_ _ | exact nsb1_ (by omega) | exact nI_1 _ | exact n8_ _ | rfl | exact PR_a (by assumption) | exact PR_o (by assumption) | exact PR_d4 (by assumption) | assumption) (by first | exact nlo_ _ | exact nsb1_ (by omega) | exact nI_1 _ | exact n8_ _ | rfl | exact PR_a (by assumption) | exact PR_o (by assumption) | exact PR_d4 (by assumption) | assumption) (by first | omega | (simp only [List.length_cons]; omega)) ⟨by first | decide | omega, by first | decide | omega, by first | decide | omega, by first | decide | omega⟩ (fun s1 h1 => ?_)
        | with_reducible refine q_goalp (by assumption) (PR_a (by assumption)) (by omega) (by first | exact nlo_ _ | exact nsb1_ (by omega) | exact nI_1 _ | exact n8_ _ | rfl | exact PR_a (by assumption) | exact PR_o (by assumption) | exact PR_d4 (by assumption) | assumption) (by first | exact nlo_ _ | exact nsb1_ (by omega) | exact nI_1 _ | exact n8_ _ | rfl | exact PR_a (by assumption) | exact PR_o (by assumption) | exact PR_d4 (by assumption) | assumption) (by first | exact nlo_ _ | exact nsb1_ (by omega) | exact nI_1 _ | exact n8_ _ | rfl | exact PR_a (by assumption) | exact PR_o (by assumption) | exact PR_d4 (by assumption) | assumption) (by first | exact nlo_ _ | exact nsb1_ (by omega) | exact nI_1 _ | exact n8_ _ | rfl | exact PR_a (by assumption) | exact PR_o (by assumption) | exact PR_d4 (by assumption) | assumption) (by first | omega | (simp only [List.length_cons]; omega)) ⟨by first | decide | omega, by first | decide | omega, by first | decide | omega, by first | decide | omega⟩ (fun s1 h1 => ?_)
        | with_reducible refine q_tk (by assumption) ?_
        | with_reducible refine q_tkp (by assumption) (PR_a (by assumption)) (by omega) (fun s1 h1 => ?_)
        | with_reducible refine q_takeq (by assumption) (by first | exact nlo_ _ | rfl) (by first | decide | omega) (by first | decide | omega) (fun hk1 s1 h1 => ?_) ?_
        | with_reducible refine q_take' (by assumption) (by first | exact nlo_ _ | rfl) (by first | decide | omega) (by first | decide | omega) (fun hk1 s1 h1 => ?_) (fun hk0 => ?_)
        | with_reducible refine q_takep (by assumption) (PR_a (by assumption)) (by omega) (by first | exact nlo_ _ | rfl) (by first | decide | omega) (by first | decide | omega) (fun hk1 s1 h1 => ?_) (fun hk0 s1 h1 => ?_)
        | with_reducible refine q_openp (by assumption) (PR_a (by assumption)) (by omega) (by omega) (by omega) (fun s1 h1 => ?_) (fun hk1 hd1 s1 h1 => ?_)
        | with_reducible refine q_deep (by assumption) (fun hd0 => ?_) (fun hd1 s1 h1 => ?_) (by omega)
        | with_reducible refine q_openq (by assumption) (by omega) (by omega) ?_ (fun hk1 hd1 s1 h1 => ?_)
        | with_reducible refine q_shutS (by assumption) (by omega) (fun s1 e1 t1 => ?_) (fun s1 p1 d1 sc1 h1 hp1 => ?_)
        | with_reducible refine q_shut' (by assumption) (by first | exact nlo_ _ | exact nsb1_ (by omega) | exact nI_1 _ | exact n8_ _ | rfl | exact PR_a (by assumption) | exact PR_o (by assumption) | exact PR_d4 (by assumption) | assumption) (by first | exact nlo_ _ | exact nsb1_ (by omega) | exact nI_1 _ | exact n8_ _ | rfl | exact PR_a (by assumption) | exact PR_o (by assumption) | exact PR_d4 (by assumption) | assumption) (by first | exact nlo_ _ | exact nsb1_ (by omega) | exact nI_1 _ | exact n8_ _ | rfl | exact PR_a (by assumption) | exact PR_o (by assumption) | exact PR_d4 (by assumption) | assumption) (by first | exact nlo_ _ | exact nsb1_ (by omega) | exact nI_1 _ | exact n8_ _ | rfl | exact PR_a (by assumption) | exact PR_o (by assumption) | exact PR_d4 (by assumption) | assumption) (by omega) (by first | decide | omega) (by first | decide | omega) (fun hb1 s1 h1 _ => ?_)
        | with_reducible refine q_leaf' (by assumption) (by first | exact nlo_ _ | exact nsb1_ (by omega) | exact nI_1 _ | exact n8_ _ | rfl | exact PR_a (by assumption) | exact PR_o (by assumption) | exact PR_d4 (by assumption) | assumption) (by first | exact nlo_ _ | exact nsb1_ (by omega) | exact nI_1 _ | exact n8_ _ | rfl | exact PR_a (by assumption) | exact PR_o (by assumption) | exact PR_d4 (by assumption) | assumption) rfl (by omega) (by decide) (by first | decide | omega) (fun s1 h1 => ?_)
        | with_reducible refine q_leafp (by assumption) (PR_a (by assumption)) (by omega) (by first | exact nlo_ _ | exact nsb1_ (by omega) | exact nI_1 _ | exact n8_ _ | rfl | exact PR_a (by assumption) | exact PR_o (by assumption) | exact PR_d4 (by assumption) | assumption) (by first | exact nlo_ _ | exact nsb1_ (by omega) | exact nI_1 _ | exact n8_ _ | rfl | exact PR_a (by assumption) | exact PR_o (by assumption) | exact PR_d4 (by assumption) | assumption) rfl (by omega) (by decide) (by first | decide | omega) (fun s1 h1 => ?_)
        | with_reducible refine q_labels' (by assumption) (by omega) (by omega) (fun s1 os1 p1 n1 el1 h1 => ?_)
        | with_reducible refine q_tqy (by assumption) ?_
        | with_reducible refine q_tqn (by assumption) ?_
        | with_reducible refine q_30 (by assumption) (by omega) (fun s1 h1 => ?_)
        | rw [m_isD _ _ _ (PT_k h.1 _), bI_s]
        | rw [PR_a h2, mm_a_n (by omega) (by decide), Option.bind_some, (h2.1.2.2.1 _ (PT_lt h.1 (by assumption) (by decide))).2]
        | with_reducible refine q_ite (fun hk1 => ?_) (fun hk0 => ?_)
        | contradiction
        | with_reducible exact absurd (And.intro (by assumption) (by assumption)) (by assumption)
        | (exfalso; omega)
        | simp only [hdi, zb_0, Bool.false_eq_true, Bool.true_eq_false, fun q => nk q 1 (by decide), fun q => nk q 10 (by decide), fun q => nk q 11 (by decide), fun q => nk q 15 (by decide), fun q => nk q 25 (by decide), fun q => nk q 47 (by decide), fun q => nk q 49 (by decide), fun q => nk q 50 (by decide), fun q => nk q 52 (by decide), fun q => nk q 53 (by decide), fun q => nk q 54 (by decide), fun q => nk q 57 (by decide), fun q => nk q 61 (by decide), fun q => nk q 62 (by decide), fun q => nk q 63 (by decide), fun q => nk q 64 (by decide), fun q => nk q 65 (by decide), fun q => nk q 66 (by decide), fun q => nk q 67 (by decide), gpT, List.cons_append, List.nil_append, show (0 : Int32) &&& 1 = 0 from rfl, show (1 : Int32) &&& 1 = 1 from rfl, show ¬ ((1 : Int32) = 0) by decide, show ¬ ((0 : Int32) = 1) by decide, if_true, if_false, eq_self_iff_true]
        | split
    refine q_ite (fun hk1 => ?_) (fun hk67 => ?_)
    · refine q_tk h2 ?_
      simp only [fun q => nk q 1 (by decide), fun q => nk q 10 (by decide), fun q => nk q 11 (by decide), fun q => nk q 15 (by decide), fun q => nk q 25 (by decide), fun q => nk q 47 (by decide), fun q => nk q 49 (by decide), fun q => nk q 50 (by decide), fun q => nk q 52 (by decide), fun q => nk q 53 (by decide), fun q => nk q 54 (by decide), fun q => nk q 57 (by decide), fun q => nk q 61 (by decide), fun q => nk q 62 (by decide), fun q => nk q 63 (by decide), fun q => nk q 64 (by decide), fun q => nk q 65 (by decide), fun q => nk q 66 (by decide), fun q => nk q 67 (by decide)]
      refine q_ite (fun hk2 => ?_) (fun hk2 => ?_)
      · repeat' first
        | with_reducible exact q_none
        | with_reducible exact q_ok (by assumption)
        | with_reducible exact q_okd (by assumption) (by omega)
        | with_reducible exact q_fl (by assumption)
        | with_reducible exact q_fl' (by assumption) (by assumption)
        | with_reducible exact q_okp (by assumption) (by omega) (PR_a (by assumption))
        | with_reducible refine q_goal' (by assumption) (by first | exact nlo_ _ | exact nsb1_ (by omega) | exact nI_1 _ | exact n8_ _ | rfl | exact PR_a (by assumption) | exact PR_o (by assumption) | exact PR_d4 (by assumption) | assumption) (by first | exact nlo_ _ | exact nsb1_ (by omega) | exact nI_1 _ | exact n8_ _ | rfl | exact PR_a (by assumption) | exact PR_o (by assumption) | exact PR_d4 (by assumption) | assumption) (by first | exact nlo_ _ | exact nsb1_ (by omega) | exact nI_1 _ | exact n8_ _ | rfl | exact PR_a (by assumption) | exact PR_o (by assumption) | exact PR_d4 (by assumption) | assumption) (by first | exact nlo_ _ | exact nsb1_ (by omega) | exact nI_1 _ | exact n8_ _ | rfl | exact PR_a (by assumption) | exact PR_o (by assumption) | exact PR_d4 (by assumption) | assumption) (by first | omega | (simp only [List.length_cons]; omega)) ⟨by first | decide | omega, by first | decide | omega, by first | decide | omega, by first | decide | omega⟩ (fun s1 h1 => ?_)
        | with_reducible refine q_goalp (by assumption) (PR_a (by assumption)) (by omega) (by first | exact nlo_ _ | exact nsb1_ (by omega) | exact nI_1 _ | exact n8_ _ | rfl | exact PR_a (by assumption) | exact PR_o (by assumption) | exact PR_d4 (by assumption) | assumption) (by first | exact nlo_ _ | exact nsb1_ (by omega) | exact nI_1 _ | exact n8_ _ | rfl | exact PR_a (by assumption) | exact PR_o (by assumption) | exact PR_d4 (by assumption) | assumption) (by first | exact nlo_ _ | exact nsb1_ (by omega) | exact nI_1 _ | exact n8_ _ | rfl | exact PR_a (by assumption) | exact PR_o (by assumption) | exact PR_d4 (by assumption) | assumption) (by first | exact nlo_ _ | exact nsb1_ (by omega) | exact nI_1 _ | exact n8_ _ | rfl | exact PR_a (by assumption) | exact PR_o (by assumption) | exact PR_d4 (by assumption) | assumption) (by first | omega | (simp only [List.length_cons]; omega)) ⟨by first | decide | omega, by first | decide | omega, by first | decide | omega, by first | decide | omega⟩ (fun s1 h1 => ?_)
        | with_reducible refine q_tk (by assumption) ?_
        | with_reducible refine q_tkp (by assumption) (PR_a (by assumption)) (by omega) (fun s1 h1 => ?_)
        | with_reducible refine q_takeq (by assumption) (by first | exact nlo_ _ | rfl) (by first | decide | omega) (by first | decide | omega) (fun hk1 s1 h1 => ?_) ?_
        | with_reducible refine q_take' (by assumption) (by first | exact nlo_ _ | rfl) (by first | decide | omega) (by first | decide | omega) (fun hk1 s1 h1 => ?_) (fun hk0 => ?_)
        | with_reducible refine q_takep (by assumption) (PR_a (by assumption)) (by omega) (by first | exact nlo_ _ | rfl) (by first | decide | omega) (by first | decide | omega) (fun hk1 s1 h1 => ?_) (fun hk0 s1 h1 => ?_)
        | with_reducible refine q_openp (by assumption) (PR_a (by assumption)) (by omega) (by omega) (by omega) (fun s1 h1 => ?_) (fun hk1 hd1 s1 h1 => ?_)
        | with_reducible refine q_deep (by assumption) (fun hd0 => ?_) (fun hd1 s1 h1 => ?_) (by omega)
        | with_reducible refine q_openq (by assumption) (by omega) (by omega) ?_ (fun hk1 hd1 s1 h1 => ?_)
        | with_reducible refine q_shutS (by assumption) (by omega) (fun s1 e1 t1 => ?_) (fun s1 p1 d1 sc1 h1 hp1 => ?_)
        | with_reducible refine q_shut' (by assumption) (by first | exact nlo_ _ | exact nsb1_ (by omega) | exact nI_1 _ | exact n8_ _ | rfl | exact PR_a (by assumption) | exact PR_o (by assumption) | exact PR_d4 (by assumption) | assumption) (by first | exact nlo_ _ | exact nsb1_ (by omega) | exact nI_1 _ | exact n8_ _ | rfl | exact PR_a (by assumption) | exact PR_o (by assumption) | exact PR_d4 (by assumption) | assumption) (by first | exact nlo_ _ | exact nsb1_ (by omega) | exact nI_1 _ | exact n8_ _ | rfl | exact PR_a (by assumption) | exact PR_o (by assumption) | exact PR_d4 (by assumption) | assumption) (by first | exact nlo_ _ | exact nsb1_ (by omega) | exact nI_1 _ | exact n8_ _ | rfl | exact PR_a (by assumption) | exact PR_o (by assumption) | exact PR_d4 (by assumption) | assumption) (by omega) (by first | decide | omega) (by first | decide | omega) (fun hb1 s1 h1 _ => ?_)
        | with_reducible refine q_leaf' (by assumption) (by first | exact nlo_ _ | exact nsb1_ (by omega) | exact nI_1 _ | exact n8_ _ | rfl | exact PR_a (by assumption) | exact PR_o (by assumption) | exact PR_d4 (by assumption) | assumption) (by first | exact nlo_ _ | exact nsb1_ (by omega) | exact nI_1 _ | exact n8_ _ | rfl | exact PR_a (by assumption) | exact PR_o (by assumption) | exact PR_d4 (by assumption) | assumption) rfl (by omega) (by decide) (by first | decide | omega) (fun s1 h1 => ?_)
        | with_reducible refine q_leafp (by assumption) (PR_a (by assumption)) (by omega) (by first | exact nlo_ _ | exact nsb1_ (by omega) | exact nI_1 _ | exact n8_ _ | rfl | exact PR_a (by assumption) | exact PR_o (by assumption) | exact PR_d4 (by assumption) | assumption) (by first | exact nlo_ _ | exact nsb1_ (by omega) | exact nI_1 _ | exact n8_ _ | rfl | exact PR_a (by assumption) | exact PR_o (by assumption) | exact PR_d4 (by assumption) | assumption) rfl (by omega) (by decide) (by first | decide | omega) (fun s1 h1 => ?_)
        | with_reducible refine q_labels' (by assumption) (by omega) (by omega) (fun s1 os1 p1 n1 el1 h1 => ?_)
        | with_reducible refine q_tqy (by assumption) ?_
        | with_reducible refine q_tqn (by assumption) ?_
        | with_reducible refine q_30 (by assumption) (by omega) (fun s1 h1 => ?_)
        | rw [m_isD _ _ _ (PT_k h.1 _), bI_s]
        | rw [PR_a h2, mm_a_n (by omega) (by decide), Option.bind_some, (h2.1.2.2.1 _ (PT_lt h.1 (by assumption) (by decide))).2]
        | with_reducible refine q_ite (fun hk1 => ?_) (fun hk0 => ?_)
        | contradiction
        | with_reducible exact absurd (And.intro (by assumption) (by assumption)) (by assumption)
        | (exfalso; omega)
        | simp only [hdi, zb_0, Bool.false_eq_true, Bool.true_eq_false, fun q => nk q 1 (by decide), fun q => nk q 10 (by decide), fun q => nk q 11 (by decide), fun q => nk q 15 (by decide), fun q => nk q 25 (by decide), fun q => nk q 47 (by decide), fun q => nk q 49 (by decide), fun q => nk q 50 (by decide), fun q => nk q 52 (by decide), fun q => nk q 53 (by decide), fun q => nk q 54 (by decide), fun q => nk q 57 (by decide), fun q => nk q 61 (by decide), fun q => nk q 62 (by decide), fun q => nk q 63 (by decide), fun q => nk q 64 (by decide), fun q => nk q 65 (by decide), fun q => nk q 66 (by decide), fun q => nk q 67 (by decide), gpT, List.cons_append, List.nil_append, show (0 : Int32) &&& 1 = 0 from rfl, show (1 : Int32) &&& 1 = 1 from rfl, show ¬ ((1 : Int32) = 0) by decide, show ¬ ((0 : Int32) = 1) by decide, if_true, if_false, eq_self_iff_true]
        | split
      · repeat' first
        | with_reducible exact q_none
        | with_reducible exact q_ok (by assumption)
        | with_reducible exact q_okd (by assumption) (by omega)
        | with_reducible exact q_fl (by assumption)
        | with_reducible exact q_fl' (by assumption) (by assumption)
        | with_reducible exact q_okp (by assumption) (by omega) (PR_a (by assumption))
        | with_reducible refine q_goal' (by assumption) (by first | exact nlo_ _ | exact nsb1_ (by omega) | exact nI_1 _ | exact n8_ _ | rfl | exact PR_a (by assumption) | exact PR_o (by assumption) | exact PR_d4 (by assumption) | assumption) (by first | exact nlo_ _ | exact nsb1_ (by omega) | exact nI_1 _ | exact n8_ _ | rfl | exact PR_a (by assumption) | exact PR_o (by assumption) | exact PR_d4 (by assumption) | assumption) (by first | exact nlo_ _ | exact nsb1_ (by omega) | exact nI_1 _ | exact n8_ _ | rfl | exact PR_a (by assumption) | exact PR_o (by assumption) | exact PR_d4 (by assumption) | assumption) (by first | exact nlo_ _ | exact nsb1_ (by omega) | exact nI_1 _ | exact n8_ _ | rfl | exact PR_a (by assumption) | exact PR_o (by assumption) | exact PR_d4 (by assumption) | assumption) (by first | omega | (simp only [List.length_cons]; omega)) ⟨by first | decide | omega, by first | decide | omega, by first | decide | omega, by first | decide | omega⟩ (fun s1 h1 => ?_)
        | with_reducible refine q_goalp (by assumption) (PR_a (by assumption)) (by omega) (by first | exact nlo_ _ | exact nsb1_ (by omega) | exact nI_1 _ | exact n8_ _ | rfl | exact PR_a (by assumption) | exact PR_o (by assumption) | exact PR_d4 (by assumption) | assumption) (by first | exact nlo_ _ | exact nsb1_ (by omega) | exact nI_1 _ | exact n8_ _ | rfl | exact PR_a (by assumption) | exact PR_o (by assumption) | exact PR_d4 (by assumption) | assumption) (by first | exact nlo_ _ | exact nsb1_ (by omega) | exact nI_1 _ | exact n8_ _ | rfl | exact PR_a (by assumption) | exact PR_o (by assumption) | exact PR_d4 (by assumption) | assumption) (by first | exact nlo_ _ | exact nsb1_ (by omega) | exact nI_1 _ | exact n8_ _ | rfl | exact PR_a (by assumption) | exact PR_o (by assumption) | exact PR_d4 (by assumption) | assumption) (by first | omega | (simp only [List.length_cons]; omega)) ⟨by first | decide | omega, by first | decide | omega, by first | decide | omega, by first | decide | omega⟩ (fun s1 h1 => ?_)
        | with_reducible refine q_tk (by assumption) ?_
        | with_reducible refine q_tkp (by assumption) (PR_a (by assumption)) (by omega) (fun s1 h1 => ?_)
        | with_reducible refine q_takeq (by assumption) (by first | exact nlo_ _ | rfl) (by first | decide | omega) (by first | decide | omega) (fun hk1 s1 h1 => ?_) ?_
        | with_reducible refine q_take' (by assumption) (by first | exact nlo_ _ | rfl) (by first | decide | omega) (by first | decide | omega) (fun hk1 s1 h1 => ?_) (fun hk0 => ?_)
        | with_reducible refine q_takep (by assumption) (PR_a (by assumption)) (by omega) (by first | exact nlo_ _ | rfl) (by first | decide | omega) (by first | decide | omega) (fun hk1 s1 h1 => ?_) (fun hk0 s1 h1 => ?_)
        | with_reducible refine q_openp (by assumption) (PR_a (by assumption)) (by omega) (by omega) (by omega) (fun s1 h1 => ?_) (fun hk1 hd1 s1 h1 => ?_)
        | with_reducible refine q_deep (by assumption) (fun hd0 => ?_) (fun hd1 s1 h1 => ?_) (by omega)
        | with_reducible refine q_openq (by assumption) (by omega) (by omega) ?_ (fun hk1 hd1 s1 h1 => ?_)
        | with_reducible refine q_shutS (by assumption) (by omega) (fun s1 e1 t1 => ?_) (fun s1 p1 d1 sc1 h1 hp1 => ?_)
        | with_reducible refine q_shut' (by assumption) (by first | exact nlo_ _ | exact nsb1_ (by omega) | exact nI_1 _ | exact n8_ _ | rfl | exact PR_a (by assumption) | exact PR_o (by assumption) | exact PR_d4 (by assumption) | assumption) (by first | exact nlo_ _ | exact nsb1_ (by omega) | exact nI_1 _ | exact n8_ _ | rfl | exact PR_a (by assumption) | exact PR_o (by assumption) | exact PR_d4 (by assumption) | assumption) (by first | exact nlo_ _ | exact nsb1_ (by omega) | exact nI_1 _ | exact n8_ _ | rfl | exact PR_a (by assumption) | exact PR_o (by assumption) | exact PR_d4 (by assumption) | assumption) (by first | exact nlo_ _ | exact nsb1_ (by omega) | exact nI_1 _ | exact n8_ _ | rfl | exact PR_a (by assumption) | exact PR_o (by assumption) | exact PR_d4 (by assumption) | assumption) (by omega) (by first | decide | omega) (by first | decide | omega) (fun hb1 s1 h1 _ => ?_)
        | with_reducible refine q_leaf' (by assumption) (by first | exact nlo_ _ | exact nsb1_ (by omega) | exact nI_1 _ | exact n8_ _ | rfl | exact PR_a (by assumption) | exact PR_o (by assumption) | exact PR_d4 (by assumption) | assumption) (by first | exact nlo_ _ | exact nsb1_ (by omega) | exact nI_1 _ | exact n8_ _ | rfl | exact PR_a (by assumption) | exact PR_o (by assumption) | exact PR_d4 (by assumption) | assumption) rfl (by omega) (by decide) (by first | decide | omega) (fun s1 h1 => ?_)
        | with_reducible refine q_leafp (by assumption) (PR_a (by assumption)) (by omega) (by first | exact nlo_ _ | exact nsb1_ (by omega) | exact nI_1 _ | exact n8_ _ | rfl | exact PR_a (by assumption) | exact PR_o (by assumption) | exact PR_d4 (by assumption) | assumption) (by first | exact nlo_ _ | exact nsb1_ (by omega) | exact nI_1 _ | exact n8_ _ | rfl | exact PR_a (by assumption) | exact PR_o (by assumption) | exact PR_d4 (by assumption) | assumption) rfl (by omega) (by decide) (by first | decide | omega) (fun s1 h1 => ?_)
        | with_reducible refine q_labels' (by assumption) (by omega) (by omega) (fun s1 os1 p1 n1 el1 h1 => ?_)
        | with_reducible refine q_tqy (by assumption) ?_
        | with_reducible refine q_tqn (by assumption) ?_
        | with_reducible refine q_30 (by assumption) (by omega) (fun s1 h1 => ?_)
        | rw [m_isD _ _ _ (PT_k h.1 _), bI_s]
        | rw [PR_a h2, mm_a_n (by omega) (by decide), Option.bind_some, (h2.1.2.2.1 _ (PT_lt h.1 (by assumption) (by decide))).2]
        | with_reducible refine q_ite (fun hk1 => ?_) (fun hk0 => ?_)
        | contradiction
        | with_reducible exact absurd (And.intro (by assumption) (by assumption)) (by assumption)
        | (exfalso; omega)
        | simp only [hdi, zb_0, Bool.false_eq_true, Bool.true_eq_false, fun q => nk q 1 (by decide), fun q => nk q 10 (by decide), fun q => nk q 11 (by decide), fun q => nk q 15 (by decide), fun q => nk q 25 (by decide), fun q => nk q 47 (by decide), fun q => nk q 49 (by decide), fun q => nk q 50 (by decide), fun q => nk q 52 (by decide), fun q => nk q 53 (by decide), fun q => nk q 54 (by decide), fun q => nk q 57 (by decide), fun q => nk q 61 (by decide), fun q => nk q 62 (by decide), fun q => nk q 63 (by decide), fun q => nk q 64 (by decide), fun q => nk q 65 (by decide), fun q => nk q 66 (by decide), fun q => nk q 67 (by decide), gpT, List.cons_append, List.nil_append, show (0 : Int32) &&& 1 = 0 from rfl, show (1 : Int32) &&& 1 = 1 from rfl, show ¬ ((1 : Int32) = 0) by decide, show ¬ ((0 : Int32) = 1) by decide, if_true, if_false, eq_self_iff_true]
        | split
    refine q_ite (fun hk1 => ?_) (fun hk47 => ?_)
    · rw [mj_command_292, if_neg (by decide)]
      repeat' first
        | with_reducible exact q_none
        | with_reducible exact q_ok (by assumption)
        | with_reducible exact q_okd (by assumption) (by omega)
        | with_reducible exact q_fl (by assumption)
        | with_reducible exact q_fl' (by assumption) (by assumption)
        | with_reducible exact q_okp (by assumption) (by omega) (PR_a (by assumption))
        | with_reducible refine q_goal' (by assumption) (by first | exact nlo_ _ | exact nsb1_ (by omega) | exact nI_1 _ | exact n8_ _ | rfl | exact PR_a (by assumption) | exact PR_o (by assumption) | exact PR_d4 (by assumption) | assumption) (by first | exact nlo_ _ | exact nsb1_ (by omega) | exact nI_1 _ | exact n8_ _ | rfl | exact PR_a (by assumption) | exact PR_o (by assumption) | exact PR_d4 (by assumption) | assumption) (by first | exact nlo_ _ | exact nsb1_ (by omega) | exact nI_1 _ | exact n8_ _ | rfl | exact PR_a (by assumption) | exact PR_o (by assumption) | exact PR_d4 (by assumption) | assumption) (by first | exact nlo_ _ | exact nsb1_ (by omega) | exact nI_1 _ | exact n8_ _ | rfl | exact PR_a (by assumption) | exact PR_o (by assumption) | exact PR_d4 (by assumption) | assumption) (by first | omega | (simp only [List.length_cons]; omega)) ⟨by first | decide | omega, by first | decide | omega, by first | decide | omega, by first | decide | omega⟩ (fun s1 h1 => ?_)
        | with_reducible refine q_goalp (by assumption) (PR_a (by assumption)) (by omega) (by first | exact nlo_ _ | exact nsb1_ (by omega) | exact nI_1 _ | exact n8_ _ | rfl | exact PR_a (by assumption) | exact PR_o (by assumption) | exact PR_d4 (by assumption) | assumption) (by first | exact nlo_ _ | exact nsb1_ (by omega) | exact nI_1 _ | exact n8_ _ | rfl | exact PR_a (by assumption) | exact PR_o (by assumption) | exact PR_d4 (by assumption) | assumption) (by first | exact nlo_ _ | exact nsb1_ (by omega) | exact nI_1 _ | exact n8_ _ | rfl | exact PR_a (by assumption) | exact PR_o (by assumption) | exact PR_d4 (by assumption) | assumption) (by first | exact nlo_ _ | exact nsb1_ (by omega) | exact nI_1 _ | exact n8_ _ | rfl | exact PR_a (by assumption) | exact PR_o (by assumption) | exact PR_d4 (by assumption) | assumption) (by first | omega | (simp only [List.length_cons]; omega)) ⟨by first | decide | omega, by first | decide | omega, by first | decide | omega, by first | decide | omega⟩ (fun s1 h1 => ?_)
        | with_reducible refine q_tk (by assumption) ?_
        | with_reducible refine q_tkp (by assumption) (PR_a (by assumption)) (by omega) (fun s1 h1 => ?_)
        | with_reducible refine q_takeq (by assumption) (by first | exact nlo_ _ | rfl) (by first | decide | omega) (by first | decide | omega) (fun hk1 s1 h1 => ?_) ?_
        | with_reducible refine q_take' (by assumption) (by first | exact nlo_ _ | rfl) (by first | decide | omega) (by first | decide | omega) (fun hk1 s1 h1 => ?_) (fun hk0 => ?_)
        | with_reducible refine q_takep (by assumption) (PR_a (by assumption)) (by omega) (by first | exact nlo_ _ | rfl) (by first | decide | omega) (by first | decide | omega) (fun hk1 s1 h1 => ?_) (fun hk0 s1 h1 => ?_)
        | with_reducible refine q_openp (by assumption) (PR_a (by assumption)) (by omega) (by omega) (by omega) (fun s1 h1 => ?_) (fun hk1 hd1 s1 h1 => ?_)
        | with_reducible refine q_deep (by assumption) (fun hd0 => ?_) (fun hd1 s1 h1 => ?_) (by omega)
        | with_reducible refine q_openq (by assumption) (by omega) (by omega) ?_ (fun hk1 hd1 s1 h1 => ?_)
        | with_reducible refine q_shutS (by assumption) (by omega) (fun s1 e1 t1 => ?_) (fun s1 p1 d1 sc1 h1 hp1 => ?_)
        | with_reducible refine q_shut' (by assumption) (by first | exact nlo_ _ | exact nsb1_ (by omega) | exact nI_1 _ | exact n8_ _ | rfl | exact PR_a (by assumption) | exact PR_o (by assumption) | exact PR_d4 (by assumption) | assumption) (by first | exact nlo_ _ | exact nsb1_ (by omega) | exact nI_1 _ | exact n8_ _ | rfl | exact PR_a (by assumption) | exact PR_o (by assumption) | exact PR_d4 (by assumption) | assumption) (by first | exact nlo_ _ | exact nsb1_ (by omega) | exact nI_1 _ | exact n8_ _ | rfl | exact PR_a (by assumption) | exact PR_o (by assumption) | exact PR_d4 (by assumption) | assumption) (by first | exact nlo_ _ | exact nsb1_ (by omega) | exact nI_1 _ | exact n8_ _ | rfl | exact PR_a (by assumption) | exact PR_o (by assumption) | exact PR_d4 (by assumption) | assumption) (by omega) (by first | decide | omega) (by first | decide | omega) (fun hb1 s1 h1 _ => ?_)
        | with_reducible refine q_leaf' (by assumption) (by first | exact nlo_ _ | exact nsb1_ (by omega) | exact nI_1 _ | exact n8_ _ | rfl | exact PR_a (by assumption) | exact PR_o (by assumption) | exact PR_d4 (by assumption) | assumption) (by first | exact nlo_ _ | exact nsb1_ (by omega) | exact nI_1 _ | exact n8_ _ | rfl | exact PR_a (by assumption) | exact PR_o (by assumption) | exact PR_d4 (by assumption) | assumption) rfl (by omega) (by decide) (by first | decide | omega) (fun s1 h1 => ?_)
        | with_reducible refine q_leafp (by assumption) (PR_a (by assumption)) (by omega) (by first | exact nlo_ _ | exact nsb1_ (by omega) | exact nI_1 _ | exact n8_ _ | rfl | exact PR_a (by assumption) | exact PR_o (by assumption) | exact PR_d4 (by assumption) | assumption) (by first | exact nlo_ _ | exact nsb1_ (by omega) | exact nI_1 _ | exact n8_ _ | rfl | exact PR_a (by assumption) | exact PR_o (by assumption) | exact PR_d4 (by assumption) | assumption) rfl (by omega) (by decide) (by first | decide | omega) (fun s1 h1 => ?_)
        | with_reducible refine q_labels' (by assumption) (by omega) (by omega) (fun s1 os1 p1 n1 el1 h1 => ?_)
        | with_reducible refine q_tqy (by assumption) ?_
        | with_reducible refine q_tqn (by assumption) ?_
        | with_reducible refine q_30 (by assumption) (by omega) (fun s1 h1 => ?_)
        | rw [m_isD _ _ _ (PT_k h.1 _), bI_s]
        | rw [PR_a h2, mm_a_n (by omega) (by decide), Option.bind_some, (h2.1.2.2.1 _ (PT_lt h.1 (by assumption) (by decide))).2]
        | with_reducible refine q_ite (fun hk1 => ?_) (fun hk0 => ?_)
        | contradiction
        | with_reducible exact absurd (And.intro (by assumption) (by assumption)) (by assumption)
        | (exfalso; omega)
        | simp only [hdi, zb_0, Bool.false_eq_true, Bool.true_eq_false, fun q => nk q 1 (by decide), fun q => nk q 10 (by decide), fun q => nk q 11 (by decide), fun q => nk q 15 (by decide), fun q => nk q 25 (by decide), fun q => nk q 47 (by decide), fun q => nk q 49 (by decide), fun q => nk q 50 (by decide), fun q => nk q 52 (by decide), fun q => nk q 53 (by decide), fun q => nk q 54 (by decide), fun q => nk q 57 (by decide), fun q => nk q 61 (by decide), fun q => nk q 62 (by decide), fun q => nk q 63 (by decide), fun q => nk q 64 (by decide), fun q => nk q 65 (by decide), fun q => nk q 66 (by decide), fun q => nk q 67 (by decide), gpT, List.cons_append, List.nil_append, show (0 : Int32) &&& 1 = 0 from rfl, show (1 : Int32) &&& 1 = 1 from rfl, show ¬ ((1 : Int32) = 0) by decide, show ¬ ((0 : Int32) = 1) by decide, if_true, if_false, eq_self_iff_true]
        | split
    refine q_ite (fun hk1 => ?_) (fun hk49 => ?_)
    · rw [mj_command_292, if_neg (by decide)]
      repeat' first
        | with_reducible exact q_none
        | with_reducible exact q_ok (by assumption)
        | with_reducible exact q_okd (by assumption) (by omega)
        | with_reducible exact q_fl (by assumption)
        | with_reducible exact q_fl' (by assumption) (by assumption)
        | with_reducible exact q_okp (by assumption) (by omega) (PR_a (by assumption))
        | with_reducible refine q_goal' (by assumption) (by first | exact nlo_ _ | exact nsb1_ (by omega) | exact nI_1 _ | exact n8_ _ | rfl | exact PR_a (by assumption) | exact PR_o (by assumption) | exact PR_d4 (by assumption) | assumption) (by first | exact nlo_ _ | exact nsb1_ (by omega) | exact nI_1 _ | exact n8_ _ | rfl | exact PR_a (by assumption) | exact PR_o (by assumption) | exact PR_d4 (by assumption) | assumption) (by first | exact nlo_ _ | exact nsb1_ (by omega) | exact nI_1 _ | exact n8_ _ | rfl | exact PR_a (by assumption) | exact PR_o (by assumption) | exact PR_d4 (by assumption) | assumption) (by first | exact nlo_ _ | exact nsb1_ (by omega) | exact nI_1 _ | exact n8_ _ | rfl | exact PR_a (by assumption) | exact PR_o (by assumption) | exact PR_d4 (by assumption) | assumption) (by first | omega | (simp only [List.length_cons]; omega)) ⟨by first | decide | omega, by first | decide | omega, by first | decide | omega, by first | decide | omega⟩ (fun s1 h1 => ?_)
        | with_reducible refine q_goalp (by assumption) (PR_a (by assumption)) (by omega) (by first | exact nlo_ _ | exact nsb1_ (by omega) | exact nI_1 _ | exact n8_ _ | rfl | exact PR_a (by assumption) | exact PR_o (by assumption) | exact PR_d4 (by assumption) | assumption) (by first | exact nlo_ _ | exact nsb1_ (by omega) | exact nI_1 _ | exact n8_ _ | rfl | exact PR_a (by assumption) | exact PR_o (by assumption) | exact PR_d4 (by assumption) | assumption) (by first | exact nlo_ _ | exact nsb1_ (by omega) | exact nI_1 _ | exact n8_ _ | rfl | exact PR_a (by assumption) | exact PR_o (by assumption) | exact PR_d4 (by assumption) | assumption) (by first | exact nlo_ _ | exact nsb1_ (by omega) | exact nI_1 _ | exact n8_ _ | rfl | exact PR_a (by assumption) | exact PR_o (by assumption) | exact PR_d4 (by assumption) | assumption) (by first | omega | (simp only [List.length_cons]; omega)) ⟨by first | decide | omega, by first | decide | omega, by first | decide | omega, by first | decide | omega⟩ (fun s1 h1 => ?_)
        | with_reducible refine q_tk (by assumption) ?_
        | with_reducible refine q_tkp (by assumption) (PR_a (by assumption)) (by omega) (fun s1 h1 => ?_)
        | with_reducible refine q_takeq (by assumption) (by first | exact nlo_ _ | rfl) (by first | decide | omega) (by first | decide | omega) (fun hk1 s1 h1 => ?_) ?_
        | with_reducible refine q_take' (by assumption) (by first | exact nlo_ _ | rfl) (by first | decide | omega) (by first | decide | omega) (fun hk1 s1 h1 => ?_) (fun hk0 => ?_)
        | with_reducible refine q_takep (by assumption) (PR_a (by assumption)) (by omega) (by first | exact nlo_ _ | rfl) (by first | decide | omega) (by first | decide | omega) (fun hk1 s1 h1 => ?_) (fun hk0 s1 h1 => ?_)
        | with_reducible refine q_openp (by assumption) (PR_a (by assumption)) (by omega) (by omega) (by omega) (fun s1 h1 => ?_) (fun hk1 hd1 s1 h1 => ?_)
        | with_reducible refine q_deep (by assumption) (fun hd0 => ?_) (fun hd1 s1 h1 => ?_) (by omega)
        | with_reducible refine q_openq (by assumption) (by omega) (by omega) ?_ (fun hk1 hd1 s1 h1 => ?_)
        | with_reducible refine q_shutS (by assumption) (by omega) (fun s1 e1 t1 => ?_) (fun s1 p1 d1 sc1 h1 hp1 => ?_)
        | with_reducible refine q_shut' (by assumption) (by first | exact nlo_ _ | exact nsb1_ (by omega) | exact nI_1 _ | exact n8_ _ | rfl | exact PR_a (by assumption) | exact PR_o (by assumption) | exact PR_d4 (by assumption) | assumption) (by first | exact nlo_ _ | exact nsb1_ (by omega) | exact nI_1 _ | exact n8_ _ | rfl | exact PR_a (by assumption) | exact PR_o (by assumption) | exact PR_d4 (by assumption) | assumption) (by first | exact nlo_ _ | exact nsb1_ (by omega) | exact nI_1 _ | exact n8_ _ | rfl | exact PR_a (by assumption) | exact PR_o (by assumption) | exact PR_d4 (by assumption) | assumption) (by first | exact nlo_ _ | exact nsb1_ (by omega) | exact nI_1 _ | exact n8_ _ | rfl | exact PR_a (by assumption) | exact PR_o (by assumption) | exact PR_d4 (by assumption) | assumption) (by omega) (by first | decide | omega) (by first | decide | omega) (fun hb1 s1 h1 _ => ?_)
        | with_reducible refine q_leaf' (by assumption) (by first | exact nlo_ _ | exact nsb1_ (by omega) | exact nI_1 _ | exact n8_ _ | rfl | exact PR_a (by assumption) | exact PR_o (by assumption) | exact PR_d4 (by assumption) | assumption) (by first | exact nlo_ _ | exact nsb1_ (by omega) | exact nI_1 _ | exact n8_ _ | rfl | exact PR_a (by assumption) | exact PR_o (by assumption) | exact PR_d4 (by assumption) | assumption) rfl (by omega) (by decide) (by first | decide | omega) (fun s1 h1 => ?_)
        | with_reducible refine q_leafp (by assumption) (PR_a (by assumption)) (by omega) (by first | exact nlo_ _ | exact nsb1_ (by omega) | exact nI_1 _ | exact n8_ _ | rfl | exact PR_a (by assumption) | exact PR_o (by assumption) | exact PR_d4 (by assumption) | assumption) (by first | exact nlo_ _ | exact nsb1_ (by omega) | exact nI_1 _ | exact n8_ _ | rfl | exact PR_a (by assumption) | exact PR_o (by assumption) | exact PR_d4 (by assumption) | assumption) rfl (by omega) (by decide) (by first | decide | omega) (fun s1 h1 => ?_)
        | with_reducible refine q_labels' (by assumption) (by omega) (by omega) (fun s1 os1 p1 n1 el1 h1 => ?_)
        | with_reducible refine q_tqy (by assumption) ?_
        | with_reducible refine q_tqn (by assumption) ?_
        | with_reducible refine q_30 (by assumption) (by omega) (fun s1 h1 => ?_)
        | rw [m_isD _ _ _ (PT_k h.1 _), bI_s]
        | rw [PR_a h2, mm_a_n (by omega) (by decide), Option.bind_some, (h2.1.2.2.1 _ (PT_lt h.1 (by assumption) (by decide))).2]
        | with_reducible refine q_ite (fun hk1 => ?_) (fun hk0 => ?_)
        | contradiction
        | with_reducible exact absurd (And.intro (by assumption) (by assumption)) (by assumption)
        | (exfalso; omega)
        | simp only [hdi, zb_0, Bool.false_eq_true, Bool.true_eq_false, fun q => nk q 1 (by decide), fun q => nk q 10 (by decide), fun q => nk q 11 (by decide), fun q => nk q 15 (by decide), fun q => nk q 25 (by decide), fun q => nk q 47 (by decide), fun q => nk q 49 (by decide), fun q => nk q 50 (by decide), fun q => nk q 52 (by decide), fun q => nk q 53 (by decide), fun q => nk q 54 (by decide), fun q => nk q 57 (by decide), fun q => nk q 61 (by decide), fun q => nk q 62 (by decide), fun q => nk q 63 (by decide), fun q => nk q 64 (by decide), fun q => nk q 65 (by decide), fun q => nk q 66 (by decide), fun q => nk q 67 (by decide), gpT, List.cons_append, List.nil_append, show (0 : Int32) &&& 1 = 0 from rfl, show (1 : Int32) &&& 1 = 1 from rfl, show ¬ ((1 : Int32) = 0) by decide, show ¬ ((0 : Int32) = 1) by decide, if_true, if_false, eq_self_iff_true]
        | split
    refine q_ite (fun hk1 => ?_) (fun hk52 => ?_)
    · rw [mj_command_292, if_neg (by decide)]
      repeat' first
        | with_reducible exact q_none
        | with_reducible exact q_ok (by assumption)
        | with_reducible exact q_okd (by assumption) (by omega)
        | with_reducible exact q_fl (by assumption)
        | with_reducible exact q_fl' (by assumption) (by assumption)
        | with_reducible exact q_okp (by assumption) (by omega) (PR_a (by assumption))
        | with_reducible refine q_goal' (by assumption) (by first | exact nlo_ _ | exact nsb1_ (by omega) | exact nI_1 _ | exact n8_ _ | rfl | exact PR_a (by assumption) | exact PR_o (by assumption) | exact PR_d4 (by assumption) | assumption) (by first | exact nlo_ _ | exact nsb1_ (by omega) | exact nI_1 _ | exact n8_ _ | rfl | exact PR_a (by assumption) | exact PR_o (by assumption) | exact PR_d4 (by assumption) | assumption) (by first | exact nlo_ _ | exact nsb1_ (by omega) | exact nI_1 _ | exact n8_ _ | rfl | exact PR_a (by assumption) | exact PR_o (by assumption) | exact PR_d4 (by assumption) | assumption) (by first | exact nlo_ _ | exact nsb1_ (by omega) | exact nI_1 _ | exact n8_ _ | rfl | exact PR_a (by assumption) | exact PR_o (by assumption) | exact PR_d4 (by assumption) | assumption) (by first | omega | (simp only [List.length_cons]; omega)) ⟨by first | decide | omega, by first | decide | omega, by first | decide | omega, by first | decide | omega⟩ (fun s1 h1 => ?_)
        | with_reducible refine q_goalp (by assumption) (PR_a (by assumption)) (by omega) (by first | exact nlo_ _ | exact nsb1_ (by omega) | exact nI_1 _ | exact n8_ _ | rfl | exact PR_a (by assumption) | exact PR_o (by assumption) | exact PR_d4 (by assumption) | assumption) (by first | exact nlo_ _ | exact nsb1_ (by omega) | exact nI_1 _ | exact n8_ _ | rfl | exact PR_a (by assumption) | exact PR_o (by assumption) | exact PR_d4 (by assumption) | assumption) (by first | exact nlo_ _ | exact nsb1_ (by omega) | exact nI_1 _ | exact n8_ _ | rfl | exact PR_a (by assumption) | exact PR_o (by assumption) | exact PR_d4 (by assumption) | assumption) (by first | exact nlo_ _ | exact nsb1_ (by omega) | exact nI_1 _ | exact n8_ _ | rfl | exact PR_a (by assumption) | exact PR_o (by assumption) | exact PR_d4 (by assumption) | assumption) (by first | omega | (simp only [List.length_cons]; omega)) ⟨by first | decide | omega, by first | decide | omega, by first | decide | omega, by first | decide | omega⟩ (fun s1 h1 => ?_)
        | with_reducible refine q_tk (by assumption) ?_
        | with_reducible refine q_tkp (by assumption) (PR_a (by assumption)) (by omega) (fun s1 h1 => ?_)
        | with_reducible refine q_takeq (by assumption) (by first | exact nlo_ _ | rfl) (by first | decide | omega) (by first | decide | omega) (fun hk1 s1 h1 => ?_) ?_
        | with_reducible refine q_take' (by assumption) (by first | exact nlo_ _ | rfl) (by first | decide | omega) (by first | decide | omega) (fun hk1 s1 h1 => ?_) (fun hk0 => ?_)
        | with_reducible refine q_takep (by assumption) (PR_a (by assumption)) (by omega) (by first | exact nlo_ _ | rfl) (by first | decide | omega) (by first | decide | omega) (fun hk1 s1 h1 => ?_) (fun hk0 s1 h1 => ?_)
        | with_reducible refine q_openp (by assumption) (PR_a (by assumption)) (by omega) (by omega) (by omega) (fun s1 h1 => ?_) (fun hk1 hd1 s1 h1 => ?_)
        | with_reducible refine q_deep (by assumption) (fun hd0 => ?_) (fun hd1 s1 h1 => ?_) (by omega)
        | with_reducible refine q_openq (by assumption) (by omega) (by omega) ?_ (fun hk1 hd1 s1 h1 => ?_)
        | with_reducible refine q_shutS (by assumption) (by omega) (fun s1 e1 t1 => ?_) (fun s1 p1 d1 sc1 h1 hp1 => ?_)
        | with_reducible refine q_shut' (by assumption) (by first | exact nlo_ _ | exact nsb1_ (by omega) | exact nI_1 _ | exact n8_ _ | rfl | exact PR_a (by assumption) | exact PR_o (by assumption) | exact PR_d4 (by assumption) | assumption) (by first | exact nlo_ _ | exact nsb1_ (by omega) | exact nI_1 _ | exact n8_ _ | rfl | exact PR_a (by assumption) | exact PR_o (by assumption) | exact PR_d4 (by assumption) | assumption) (by first | exact nlo_ _ | exact nsb1_ (by omega) | exact nI_1 _ | exact n8_ _ | rfl | exact PR_a (by assumption) | exact PR_o (by assumption) | exact PR_d4 (by assumption) | assumption) (by first | exact nlo_ _ | exact nsb1_ (by omega) | exact nI_1 _ | exact n8_ _ | rfl | exact PR_a (by assumption) | exact PR_o (by assumption) | exact PR_d4 (by assumption) | assumption) (by omega) (by first | decide | omega) (by first | decide | omega) (fun hb1 s1 h1 _ => ?_)
        | with_reducible refine q_leaf' (by assumption) (by first | exact nlo_ _ | exact nsb1_ (by omega) | exact nI_1 _ | exact n8_ _ | rfl | exact PR_a (by assumption) | exact PR_o (by assumption) | exact PR_d4 (by assumption) | assumption) (by first | exact nlo_ _ | exact nsb1_ (by omega) | exact nI_1 _ | exact n8_ _ | rfl | exact PR_a (by assumption) | exact PR_o (by assumption) | exact PR_d4 (by assumption) | assumption) rfl (by omega) (by decide) (by first | decide | omega) (fun s1 h1 => ?_)
        | with_reducible refine q_leafp (by assumption) (PR_a (by assumption)) (by omega) (by first | exact nlo_ _ | exact nsb1_ (by omega) | exact nI_1 _ | exact n8_ _ | rfl | exact PR_a (by assumption) | exact PR_o (by assumption) | exact PR_d4 (by assumption) | assumption) (by first | exact nlo_ _ | exact nsb1_ (by omega) | exact nI_1 _ | exact n8_ _ | rfl | exact PR_a (by assumption) | exact PR_o (by assumption) | exact PR_d4 (by assumption) | assumption) rfl (by omega) (by decide) (by first | decide | omega) (fun s1 h1 => ?_)
        | with_reducible refine q_labels' (by assumption) (by omega) (by omega) (fun s1 os1 p1 n1 el1 h1 => ?_)
        | with_reducible refine q_tqy (by assumption) ?_
        | with_reducible refine q_tqn (by assumption) ?_
        | with_reducible refine q_30 (by assumption) (by omega) (fun s1 h1 => ?_)
        | rw [m_isD _ _ _ (PT_k h.1 _), bI_s]
        | rw [PR_a h2, mm_a_n (by omega) (by decide), Option.bind_some, (h2.1.2.2.1 _ (PT_lt h.1 (by assumption) (by decide))).2]
        | with_reducible refine q_ite (fun hk1 => ?_) (fun hk0 => ?_)
        | contradiction
        | with_reducible exact absurd (And.intro (by assumption) (by assumption)) (by assumption)
        | (exfalso; omega)
        | simp only [hdi, zb_0, Bool.false_eq_true, Bool.true_eq_false, fun q => nk q 1 (by decide), fun q => nk q 10 (by decide), fun q => nk q 11 (by decide), fun q => nk q 15 (by decide), fun q => nk q 25 (by decide), fun q => nk q 47 (by decide), fun q => nk q 49 (by decide), fun q => nk q 50 (by decide), fun q => nk q 52 (by decide), fun q => nk q 53 (by decide), fun q => nk q 54 (by decide), fun q => nk q 57 (by decide), fun q => nk q 61 (by decide), fun q => nk q 62 (by decide), fun q => nk q 63 (by decide), fun q => nk q 64 (by decide), fun q => nk q 65 (by decide), fun q => nk q 66 (by decide), fun q => nk q 67 (by decide), gpT, List.cons_append, List.nil_append, show (0 : Int32) &&& 1 = 0 from rfl, show (1 : Int32) &&& 1 = 1 from rfl, show ¬ ((1 : Int32) = 0) by decide, show ¬ ((0 : Int32) = 1) by decide, if_true, if_false, eq_self_iff_true]
        | split
    refine q_ite (fun hk1 => ?_) (fun hk53 => ?_)
    · rw [mj_command_292, if_neg (by decide)]
      repeat' first
        | with_reducible exact q_none
        | with_reducible exact q_ok (by assumption)
        | with_reducible exact q_okd (by assumption) (by omega)
        | with_reducible exact q_fl (by assumption)
        | with_reducible exact q_fl' (by assumption) (by assumption)
        | with_reducible exact q_okp (by assumption) (by omega) (PR_a (by assumption))
        | with_reducible refine q_goal' (by assumption) (by first | exact nlo_ _ | exact nsb1_ (by omega) | exact nI_1 _ | exact n8_ _ | rfl | exact PR_a (by assumption) | exact PR_o (by assumption) | exact PR_d4 (by assumption) | assumption) (by first | exact nlo_ _ | exact nsb1_ (by omega) | exact nI_1 _ | exact n8_ _ | rfl | exact PR_a (by assumption) | exact PR_o (by assumption) | exact PR_d4 (by assumption) | assumption) (by first | exact nlo_ _ | exact nsb1_ (by omega) | exact nI_1 _ | exact n8_ _ | rfl | exact PR_a (by assumption) | exact PR_o (by assumption) | exact PR_d4 (by assumption) | assumption) (by first | exact nlo_ _ | exact nsb1_ (by omega) | exact nI_1 _ | exact n8_ _ | rfl | exact PR_a (by assumption) | exact PR_o (by assumption) | exact PR_d4 (by assumption) | assumption) (by first | omega | (simp only [List.length_cons]; omega)) ⟨by first | decide | omega, by first | decide | omega, by first | decide | omega, by first | decide | omega⟩ (fun s1 h1 => ?_)
        | with_reducible refine q_goalp (by assumption) (PR_a (by assumption)) (by omega) (by first | exact nlo_ _ | exact nsb1_ (by omega) | exact nI_1 _ | exact n8_ _ | rfl | exact PR_a (by assumption) | exact PR_o (by assumption) | exact PR_d4 (by assumption) | assumption) (by first | exact nlo_ _ | exact nsb1_ (by omega) | exact nI_1 _ | exact n8_ _ | rfl | exact PR_a (by assumption) | exact PR_o (by assumption) | exact PR_d4 (by assumption) | assumption) (by first | exact nlo_ _ | exact nsb1_ (by omega) | exact nI_1 _ | exact n8_ _ | rfl | exact PR_a (by assumption) | exact PR_o (by assumption) | exact PR_d4 (by assumption) | assumption) (by first | exact nlo_ _ | exact nsb1_ (by omega) | exact nI_1 _ | exact n8_ _ | rfl | exact PR_a (by assumption) | exact PR_o (by assumption) | exact PR_d4 (by assumption) | assumption) (by first | omega | (simp only [List.length_cons]; omega)) ⟨by first | decide | omega, by first | decide | omega, by first | decide | omega, by first | decide | omega⟩ (fun s1 h1 => ?_)
        | with_reducible refine q_tk (by assumption) ?_
        | with_reducible refine q_tkp (by assumption) (PR_a (by assumption)) (by omega) (fun s1 h1 => ?_)
        | with_reducible refine q_takeq (by assumption) (by first | exact nlo_ _ | rfl) (by first | decide | omega) (by first | decide | omega) (fun hk1 s1 h1 => ?_) ?_
        | with_reducible refine q_take' (by assumption) (by first | exact nlo_ _ | rfl) (by first | decide | omega) (by first | decide | omega) (fun hk1 s1 h1 => ?_) (fun hk0 => ?_)
        | with_reducible refine q_takep (by assumption) (PR_a (by assumption)) (by omega) (by first | exact nlo_ _ | rfl) (by first | decide | omega) (by first | decide | omega) (fun hk1 s1 h1 => ?_) (fun hk0 s1 h1 => ?_)
        | with_reducible refine q_openp (by assumption) (PR_a (by assumption)) (by omega) (by omega) (by omega) (fun s1 h1 => ?_) (fun hk1 hd1 s1 h1 => ?_)
        | with_reducible refine q_deep (by assumption) (fun hd0 => ?_) (fun hd1 s1 h1 => ?_) (by omega)
        | with_reducible refine q_openq (by assumption) (by omega) (by omega) ?_ (fun hk1 hd1 s1 h1 => ?_)
        | with_reducible refine q_shutS (by assumption) (by omega) (fun s1 e1 t1 => ?_) (fun s1 p1 d1 sc1 h1 hp1 => ?_)
        | with_reducible refine q_shut' (by assumption) (by first | exact nlo_ _ | exact nsb1_ (by omega) | exact nI_1 _ | exact n8_ _ | rfl | exact PR_a (by assumption) | exact PR_o (by assumption) | exact PR_d4 (by assumption) | assumption) (by first | exact nlo_ _ | exact nsb1_ (by omega) | exact nI_1 _ | exact n8_ _ | rfl | exact PR_a (by assumption) | exact PR_o (by assumption) | exact PR_d4 (by assumption) | assumption) (by first | exact nlo_ _ | exact nsb1_ (by omega) | exact nI_1 _ | exact n8_ _ | rfl | exact PR_a (by assumption) | exact PR_o (by assumption) | exact PR_d4 (by assumption) | assumption) (by first | exact nlo_ _ | exact nsb1_ (by omega) | exact nI_1 _ | exact n8_ _ | rfl | exact PR_a (by assumption) | exact PR_o (by assumption) | exact PR_d4 (by assumption) | assumption) (by omega) (by first | decide | omega) (by first | decide | omega) (fun hb1 s1 h1 _ => ?_)
        | with_reducible refine q_leaf' (by assumption) (by first | exact nlo_ _ | exact nsb1_ (by omega) | exact nI_1 _ | exact n8_ _ | rfl | exact PR_a (by assumption) | exact PR_o (by assumption) | exact PR_d4 (by assumption) | assumption) (by first | exact nlo_ _ | exact nsb1_ (by omega) | exact nI_1 _ | exact n8_ _ | rfl | exact PR_a (by assumption) | exact PR_o (by assumption) | exact PR_d4 (by assumption) | assumption) rfl (by omega) (by decide) (by first | decide | omega) (fun s1 h1 => ?_)
        | with_reducible refine q_leafp (by assumption) (PR_a (by assumption)) (by omega) (by first | exact nlo_ _ | exact nsb1_ (by omega) | exact nI_1 _ | exact n8_ _ | rfl | exact PR_a (by assumption) | exact PR_o (by assumption) | exact PR_d4 (by assumption) | assumption) (by first | exact nlo_ _ | exact nsb1_ (by omega) | exact nI_1 _ | exact n8_ _ | rfl | exact PR_a (by assumption) | exact PR_o (by assumption) | exact PR_d4 (by assumption) | assumption) rfl (by omega) (by decide) (by first | decide | omega) (fun s1 h1 => ?_)
        | with_reducible refine q_labels' (by assumption) (by omega) (by omega) (fun s1 os1 p1 n1 el1 h1 => ?_)
        | with_reducible refine q_tqy (by assumption) ?_
        | with_reducible refine q_tqn (by assumption) ?_
        | with_reducible refine q_30 (by assumption) (by omega) (fun s1 h1 => ?_)
        | rw [m_isD _ _ _ (PT_k h.1 _), bI_s]
        | rw [PR_a h2, mm_a_n (by omega) (by decide), Option.bind_some, (h2.1.2.2.1 _ (PT_lt h.1 (by assumption) (by decide))).2]
        | with_reducible refine q_ite (fun hk1 => ?_) (fun hk0 => ?_)
        | contradiction
        | with_reducible exact absurd (And.intro (by assumption) (by assumption)) (by assumption)
        | (exfalso; omega)
        | simp only [hdi, zb_0, Bool.false_eq_true, Bool.true_eq_false, fun q => nk q 1 (by decide), fun q => nk q 10 (by decide), fun q => nk q 11 (by decide), fun q => nk q 15 (by decide), fun q => nk q 25 (by decide), fun q => nk q 47 (by decide), fun q => nk q 49 (by decide), fun q => nk q 50 (by decide), fun q => nk q 52 (by decide), fun q => nk q 53 (by decide), fun q => nk q 54 (by decide), fun q => nk q 57 (by decide), fun q => nk q 61 (by decide), fun q => nk q 62 (by decide), fun q => nk q 63 (by decide), fun q => nk q 64 (by decide), fun q => nk q 65 (by decide), fun q => nk q 66 (by decide), fun q => nk q 67 (by decide), gpT, List.cons_append, List.nil_append, show (0 : Int32) &&& 1 = 0 from rfl, show (1 : Int32) &&& 1 = 1 from rfl, show ¬ ((1 : Int32) = 0) by decide, show ¬ ((0 : Int32) = 1) by decide, if_true, if_false, eq_self_iff_true]
        | split
    rw [mj_command_292, if_pos (c := (-1 : Int32) < 0) (by decide)]
    simp only [fun q => nk q 1 (by decide), fun q => nk q 10 (by decide), fun q => nk q 11 (by decide), fun q => nk q 15 (by decide), fun q => nk q 25 (by decide), fun q => nk q 47 (by decide), fun q => nk q 49 (by decide), fun q => nk q 50 (by decide), fun q => nk q 52 (by decide), fun q => nk q 53 (by decide), fun q => nk q 54 (by decide), fun q => nk q 57 (by decide), fun q => nk q 61 (by decide), fun q => nk q 62 (by decide), fun q => nk q 63 (by decide), fun q => nk q 64 (by decide), fun q => nk q 65 (by decide), fun q => nk q 66 (by decide), fun q => nk q 67 (by decide)]
    refine q_ite (fun hk1 => ?_) (fun hk50 => ?_)
    · repeat' first
        | with_reducible exact q_none
        | with_reducible exact q_ok (by assumption)
        | with_reducible exact q_okd (by assumption) (by omega)
        | with_reducible exact q_fl (by assumption)
        | with_reducible exact q_fl' (by assumption) (by assumption)
        | with_reducible exact q_okp (by assumption) (by omega) (PR_a (by assumption))
        | with_reducible refine q_goal' (by assumption) (by first | exact nlo_ _ | exact nsb1_ (by omega) | exact nI_1 _ | exact n8_ _ | rfl | exact PR_a (by assumption) | exact PR_o (by assumption) | exact PR_d4 (by assumption) | assumption) (by first | exact nlo_ _ | exact nsb1_ (by omega) | exact nI_1 _ | exact n8_ _ | rfl | exact PR_a (by assumption) | exact PR_o (by assumption) | exact PR_d4 (by assumption) | assumption) (by first | exact nlo_ _ | exact nsb1_ (by omega) | exact nI_1 _ | exact n8_ _ | rfl | exact PR_a (by assumption) | exact PR_o (by assumption) | exact PR_d4 (by assumption) | assumption) (by first | exact nlo_ _ | exact nsb1_ (by omega) | exact nI_1 _ | exact n8_ _ | rfl | exact PR_a (by assumption) | exact PR_o (by assumption) | exact PR_d4 (by assumption) | assumption) (by first | omega | (simp only [List.length_cons]; omega)) ⟨by first | decide | omega, by first | decide | omega, by first | decide | omega, by first | decide | omega⟩ (fun s1 h1 => ?_)
        | with_reducible refine q_goalp (by assumption) (PR_a (by assumption)) (by omega) (by first | exact nlo_ _ | exact nsb1_ (by omega) | exact nI_1 _ | exact n8_ _ | rfl | exact PR_a (by assumption) | exact PR_o (by assumption) | exact PR_d4 (by assumption) | assumption) (by first | exact nlo_ _ | exact nsb1_ (by omega) | exact nI_1 _ | exact n8_ _ | rfl | exact PR_a (by assumption) | exact PR_o (by assumption) | exact PR_d4 (by assumption) | assumption) (by first | exact nlo_ _ | exact nsb1_ (by omega) | exact nI_1 _ | exact n8_ _ | rfl | exact PR_a (by assumption) | exact PR_o (by assumption) | exact PR_d4 (by assumption) | assumption) (by first | exact nlo_ _ | exact nsb1_ (by omega) | exact nI_1 _ | exact n8_ _ | rfl | exact PR_a (by assumption) | exact PR_o (by assumption) | exact PR_d4 (by assumption) | assumption) (by first | omega | (simp only [List.length_cons]; omega)) ⟨by first | decide | omega, by first | decide | omega, by first | decide | omega, by first | decide | omega⟩ (fun s1 h1 => ?_)
        | with_reducible refine q_tk (by assumption) ?_
        | with_reducible refine q_tkp (by assumption) (PR_a (by assumption)) (by omega) (fun s1 h1 => ?_)
        | with_reducible refine q_takeq (by assumption) (by first | exact nlo_ _ | rfl) (by first | decide | omega) (by first | decide | omega) (fun hk1 s1 h1 => ?_) ?_
        | with_reducible refine q_take' (by assumption) (by first | exact nlo_ _ | rfl) (by first | decide | omega) (by first | decide | omega) (fun hk1 s1 h1 => ?_) (fun hk0 => ?_)
        | with_reducible refine q_takep (by assumption) (PR_a (by assumption)) (by omega) (by first | exact nlo_ _ | rfl) (by first | decide | omega) (by first | decide | omega) (fun hk1 s1 h1 => ?_) (fun hk0 s1 h1 => ?_)
        | with_reducible refine q_openp (by assumption) (PR_a (by assumption)) (by omega) (by omega) (by omega) (fun s1 h1 => ?_) (fun hk1 hd1 s1 h1 => ?_)
        | with_reducible refine q_deep (by assumption) (fun hd0 => ?_) (fun hd1 s1 h1 => ?_) (by omega)
        | with_reducible refine q_openq (by assumption) (by omega) (by omega) ?_ (fun hk1 hd1 s1 h1 => ?_)
        | with_reducible refine q_shutS (by assumption) (by omega) (fun s1 e1 t1 => ?_) (fun s1 p1 d1 sc1 h1 hp1 => ?_)
        | with_reducible refine q_shut' (by assumption) (by first | exact nlo_ _ | exact nsb1_ (by omega) | exact nI_1 _ | exact n8_ _ | rfl | exact PR_a (by assumption) | exact PR_o (by assumption) | exact PR_d4 (by assumption) | assumption) (by first | exact nlo_ _ | exact nsb1_ (by omega) | exact nI_1 _ | exact n8_ _ | rfl | exact PR_a (by assumption) | exact PR_o (by assumption) | exact PR_d4 (by assumption) | assumption) (by first | exact nlo_ _ | exact nsb1_ (by omega) | exact nI_1 _ | exact n8_ _ | rfl | exact PR_a (by assumption) | exact PR_o (by assumption) | exact PR_d4 (by assumption) | assumption) (by first | exact nlo_ _ | exact nsb1_ (by omega) | exact nI_1 _ | exact n8_ _ | rfl | exact PR_a (by assumption) | exact PR_o (by assumption) | exact PR_d4 (by assumption) | assumption) (by omega) (by first | decide | omega) (by first | decide | omega) (fun hb1 s1 h1 _ => ?_)
        | with_reducible refine q_leaf' (by assumption) (by first | exact nlo_ _ | exact nsb1_ (by omega) | exact nI_1 _ | exact n8_ _ | rfl | exact PR_a (by assumption) | exact PR_o (by assumption) | exact PR_d4 (by assumption) | assumption) (by first | exact nlo_ _ | exact nsb1_ (by omega) | exact nI_1 _ | exact n8_ _ | rfl | exact PR_a (by assumption) | exact PR_o (by assumption) | exact PR_d4 (by assumption) | assumption) rfl (by omega) (by decide) (by first | decide | omega) (fun s1 h1 => ?_)
        | with_reducible refine q_leafp (by assumption) (PR_a (by assumption)) (by omega) (by first | exact nlo_ _ | exact nsb1_ (by omega) | exact nI_1 _ | exact n8_ _ | rfl | exact PR_a (by assumption) | exact PR_o (by assumption) | exact PR_d4 (by assumption) | assumption) (by first | exact nlo_ _ | exact nsb1_ (by omega) | exact nI_1 _ | exact n8_ _ | rfl | exact PR_a (by assumption) | exact PR_o (by assumption) | exact PR_d4 (by assumption) | assumption) rfl (by omega) (by decide) (by first | decide | omega) (fun s1 h1 => ?_)
        | with_reducible refine q_labels' (by assumption) (by omega) (by omega) (fun s1 os1 p1 n1 el1 h1 => ?_)
        | with_reducible refine q_tqy (by assumption) ?_
        | with_reducible refine q_tqn (by assumption) ?_
        | with_reducible refine q_30 (by assumption) (by omega) (fun s1 h1 => ?_)
        | rw [m_isD _ _ _ (PT_k h.1 _), bI_s]
        | rw [PR_a h2, mm_a_n (by omega) (by decide), Option.bind_some, (h2.1.2.2.1 _ (PT_lt h.1 (by assumption) (by decide))).2]
        | with_reducible refine q_ite (fun hk1 => ?_) (fun hk0 => ?_)
        | contradiction
        | with_reducible exact absurd (And.intro (by assumption) (by assumption)) (by assumption)
        | (exfalso; omega)
        | simp only [hdi, zb_0, Bool.false_eq_true, Bool.true_eq_false, fun q => nk q 1 (by decide), fun q => nk q 10 (by decide), fun q => nk q 11 (by decide), fun q => nk q 15 (by decide), fun q => nk q 25 (by decide), fun q => nk q 47 (by decide), fun q => nk q 49 (by decide), fun q => nk q 50 (by decide), fun q => nk q 52 (by decide), fun q => nk q 53 (by decide), fun q => nk q 54 (by decide), fun q => nk q 57 (by decide), fun q => nk q 61 (by decide), fun q => nk q 62 (by decide), fun q => nk q 63 (by decide), fun q => nk q 64 (by decide), fun q => nk q 65 (by decide), fun q => nk q 66 (by decide), fun q => nk q 67 (by decide), gpT, List.cons_append, List.nil_append, show (0 : Int32) &&& 1 = 0 from rfl, show (1 : Int32) &&& 1 = 1 from rfl, show ¬ ((1 : Int32) = 0) by decide, show ¬ ((0 : Int32) = 1) by decide, if_true, if_false, eq_self_iff_true]
        | split
    refine q_ite (fun hk1 => ?_) (fun hk54 => ?_)
    · refine q_tk h2 ?_
      simp only [fun q => nk q 1 (by decide), fun q => nk q 10 (by decide), fun q => nk q 11 (by decide), fun q => nk q 15 (by decide), fun q => nk q 25 (by decide), fun q => nk q 47 (by decide), fun q => nk q 49 (by decide), fun q => nk q 50 (by decide), fun q => nk q 52 (by decide), fun q => nk q 53 (by decide), fun q => nk q 54 (by decide), fun q => nk q 57 (by decide), fun q => nk q 61 (by decide), fun q => nk q 62 (by decide), fun q => nk q 63 (by decide), fun q => nk q 64 (by decide), fun q => nk q 65 (by decide), fun q => nk q 66 (by decide), fun q => nk q 67 (by decide)]
      refine q_ite (fun hk2 => ?_) (fun hk2 => ?_)
      · repeat' first
        | with_reducible exact q_none
        | with_reducible exact q_ok (by assumption)
        | with_reducible exact q_okd (by assumption) (by omega)
        | with_reducible exact q_fl (by assumption)
        | with_reducible exact q_fl' (by assumption) (by assumption)
        | with_reducible exact q_okp (by assumption) (by omega) (PR_a (by assumption))
        | with_reducible refine q_goal' (by assumption) (by first | exact nlo_ _ | exact nsb1_ (by omega) | exact nI_1 _ | exact n8_ _ | rfl | exact PR_a (by assumption) | exact PR_o (by assumption) | exact PR_d4 (by assumption) | assumption) (by first | exact nlo_ _ | exact nsb1_ (by omega) | exact nI_1 _ | exact n8_ _ | rfl | exact PR_a (by assumption) | exact PR_o (by assumption) | exact PR_d4 (by assumption) | assumption) (by first | exact nlo_ _ | exact nsb1_ (by omega) | exact nI_1 _ | exact n8_ _ | rfl | exact PR_a (by assumption) | exact PR_o (by assumption) | exact PR_d4 (by assumption) | assumption) (by first | exact nlo_ _ | exact nsb1_ (by omega) | exact nI_1 _ | exact n8_ _ | rfl | exact PR_a (by assumption) | exact PR_o (by assumption) | exact PR_d4 (by assumption) | assumption) (by first | omega | (simp only [List.length_cons]; omega)) ⟨by first | decide | omega, by first | decide | omega, by first | decide | omega, by first | decide | omega⟩ (fun s1 h1 => ?_)
        | with_reducible refine q_goalp (by assumption) (PR_a (by assumption)) (by omega) (by first | exact nlo_ _ | exact nsb1_ (by omega) | exact nI_1 _ | exact n8_ _ | rfl | exact PR_a (by assumption) | exact PR_o (by assumption) | exact PR_d4 (by assumption) | assumption) (by first | exact nlo_ _ | exact nsb1_ (by omega) | exact nI_1 _ | exact n8_ _ | rfl | exact PR_a (by assumption) | exact PR_o (by assumption) | exact PR_d4 (by assumption) | assumption) (by first | exact nlo_ _ | exact nsb1_ (by omega) | exact nI_1 _ | exact n8_ _ | rfl | exact PR_a (by assumption) | exact PR_o (by assumption) | exact PR_d4 (by assumption) | assumption) (by first | exact nlo_ _ | exact nsb1_ (by omega) | exact nI_1 _ | exact n8_ _ | rfl | exact PR_a (by assumption) | exact PR_o (by assumption) | exact PR_d4 (by assumption) | assumption) (by first | omega | (simp only [List.length_cons]; omega)) ⟨by first | decide | omega, by first | decide | omega, by first | decide | omega, by first | decide | omega⟩ (fun s1 h1 => ?_)
        | with_reducible refine q_tk (by assumption) ?_
        | with_reducible refine q_tkp (by assumption) (PR_a (by assumption)) (by omega) (fun s1 h1 => ?_)
        | with_reducible refine q_takeq (by assumption) (by first | exact nlo_ _ | rfl) (by first | decide | omega) (by first | decide | omega) (fun hk1 s1 h1 => ?_) ?_
        | with_reducible refine q_take' (by assumption) (by first | exact nlo_ _ | rfl) (by first | decide | omega) (by first | decide | omega) (fun hk1 s1 h1 => ?_) (fun hk0 => ?_)
        | with_reducible refine q_takep (by assumption) (PR_a (by assumption)) (by omega) (by first | exact nlo_ _ | rfl) (by first | decide | omega) (by first | decide | omega) (fun hk1 s1 h1 => ?_) (fun hk0 s1 h1 => ?_)
        | with_reducible refine q_openp (by assumption) (PR_a (by assumption)) (by omega) (by omega) (by omega) (fun s1 h1 => ?_) (fun hk1 hd1 s1 h1 => ?_)
        | with_reducible refine q_deep (by assumption) (fun hd0 => ?_) (fun hd1 s1 h1 => ?_) (by omega)
        | with_reducible refine q_openq (by assumption) (by omega) (by omega) ?_ (fun hk1 hd1 s1 h1 => ?_)
        | with_reducible refine q_shutS (by assumption) (by omega) (fun s1 e1 t1 => ?_) (fun s1 p1 d1 sc1 h1 hp1 => ?_)
        | with_reducible refine q_shut' (by assumption) (by first | exact nlo_ _ | exact nsb1_ (by omega) | exact nI_1 _ | exact n8_ _ | rfl | exact PR_a (by assumption) | exact PR_o (by assumption) | exact PR_d4 (by assumption) | assumption) (by first | exact nlo_ _ | exact nsb1_ (by omega) | exact nI_1 _ | exact n8_ _ | rfl | exact PR_a (by assumption) | exact PR_o (by assumption) | exact PR_d4 (by assumption) | assumption) (by first | exact nlo_ _ | exact nsb1_ (by omega) | exact nI_1 _ | exact n8_ _ | rfl | exact PR_a (by assumption) | exact PR_o (by assumption) | exact PR_d4 (by assumption) | assumption) (by first | exact nlo_ _ | exact nsb1_ (by omega) | exact nI_1 _ | exact n8_ _ | rfl | exact PR_a (by assumption) | exact PR_o (by assumption) | exact PR_d4 (by assumption) | assumption) (by omega) (by first | decide | omega) (by first | decide | omega) (fun hb1 s1 h1 _ => ?_)
        | with_reducible refine q_leaf' (by assumption) (by first | exact nlo_ _ | exact nsb1_ (by omega) | exact nI_1 _ | exact n8_ _ | rfl | exact PR_a (by assumption) | exact PR_o (by assumption) | exact PR_d4 (by assumption) | assumption) (by first | exact nlo_ _ | exact nsb1_ (by omega) | exact nI_1 _ | exact n8_ _ | rfl | exact PR_a (by assumption) | exact PR_o (by assumption) | exact PR_d4 (by assumption) | assumption) rfl (by omega) (by decide) (by first | decide | omega) (fun s1 h1 => ?_)
        | with_reducible refine q_leafp (by assumption) (PR_a (by assumption)) (by omega) (by first | exact nlo_ _ | exact nsb1_ (by omega) | exact nI_1 _ | exact n8_ _ | rfl | exact PR_a (by assumption) | exact PR_o (by assumption) | exact PR_d4 (by assumption) | assumption) (by first | exact nlo_ _ | exact nsb1_ (by omega) | exact nI_1 _ | exact n8_ _ | rfl | exact PR_a (by assumption) | exact PR_o (by assumption) | exact PR_d4 (by assumption) | assumption) rfl (by omega) (by decide) (by first | decide | omega) (fun s1 h1 => ?_)
        | with_reducible refine q_labels' (by assumption) (by omega) (by omega) (fun s1 os1 p1 n1 el1 h1 => ?_)
        | with_reducible refine q_tqy (by assumption) ?_
        | with_reducible refine q_tqn (by assumption) ?_
        | with_reducible refine q_30 (by assumption) (by omega) (fun s1 h1 => ?_)
        | rw [m_isD _ _ _ (PT_k h.1 _), bI_s]
        | rw [PR_a h2, mm_a_n (by omega) (by decide), Option.bind_some, (h2.1.2.2.1 _ (PT_lt h.1 (by assumption) (by decide))).2]
        | with_reducible refine q_ite (fun hk1 => ?_) (fun hk0 => ?_)
        | contradiction
        | with_reducible exact absurd (And.intro (by assumption) (by assumption)) (by assumption)
        | (exfalso; omega)
        | simp only [hdi, zb_0, Bool.false_eq_true, Bool.true_eq_false, fun q => nk q 1 (by decide), fun q => nk q 10 (by decide), fun q => nk q 11 (by decide), fun q => nk q 15 (by decide), fun q => nk q 25 (by decide), fun q => nk q 47 (by decide), fun q => nk q 49 (by decide), fun q => nk q 50 (by decide), fun q => nk q 52 (by decide), fun q => nk q 53 (by decide), fun q => nk q 54 (by decide), fun q => nk q 57 (by decide), fun q => nk q 61 (by decide), fun q => nk q 62 (by decide), fun q => nk q 63 (by decide), fun q => nk q 64 (by decide), fun q => nk q 65 (by decide), fun q => nk q 66 (by decide), fun q => nk q 67 (by decide), gpT, List.cons_append, List.nil_append, show (0 : Int32) &&& 1 = 0 from rfl, show (1 : Int32) &&& 1 = 1 from rfl, show ¬ ((1 : Int32) = 0) by decide, show ¬ ((0 : Int32) = 1) by decide, if_true, if_false, eq_self_iff_true]
        | split
      · repeat' first
        | with_reducible exact q_none
        | with_reducible exact q_ok (by assumption)
        | with_reducible exact q_okd (by assumption) (by omega)
        | with_reducible exact q_fl (by assumption)
        | with_reducible exact q_fl' (by assumption) (by assumption)
        | with_reducible exact q_okp (by assumption) (by omega) (PR_a (by assumption))
        | with_reducible refine q_goal' (by assumption) (by first | exact nlo_ _ | exact nsb1_ (by omega) | exact nI_1 _ | exact n8_ _ | rfl | exact PR_a (by assumption) | exact PR_o (by assumption) | exact PR_d4 (by assumption) | assumption) (by first | exact nlo_ _ | exact nsb1_ (by omega) | exact nI_1 _ | exact n8_ _ | rfl | exact PR_a (by assumption) | exact PR_o (by assumption) | exact PR_d4 (by assumption) | assumption) (by first | exact nlo_ _ | exact nsb1_ (by omega) | exact nI_1 _ | exact n8_ _ | rfl | exact PR_a (by assumption) | exact PR_o (by assumption) | exact PR_d4 (by assumption) | assumption) (by first | exact nlo_ _ | exact nsb1_ (by omega) | exact nI_1 _ | exact n8_ _ | rfl | exact PR_a (by assumption) | exact PR_o (by assumption) | exact PR_d4 (by assumption) | assumption) (by first | omega | (simp only [List.length_cons]; omega)) ⟨by first | decide | omega, by first | decide | omega, by first | decide | omega, by first | decide | omega⟩ (fun s1 h1 => ?_)
        | with_reducible refine q_goalp (by assumption) (PR_a (by assumption)) (by omega) (by first | exact nlo_ _ | exact nsb1_ (by omega) | exact nI_1 _ | exact n8_ _ | rfl | exact PR_a (by assumption) | exact PR_o (by assumption) | exact PR_d4 (by assumption) | assumption) (by first | exact nlo_ _ | exact nsb1_ (by omega) | exact nI_1 _ | exact n8_ _ | rfl | exact PR_a (by assumption) | exact PR_o (by assumption) | exact PR_d4 (by assumption) | assumption) (by first | exact nlo_ _ | exact nsb1_ (by omega) | exact nI_1 _ | exact n8_ _ | rfl | exact PR_a (by assumption) | exact PR_o (by assumption) | exact PR_d4 (by assumption) | assumption) (by first | exact nlo_ _ | exact nsb1_ (by omega) | exact nI_1 _ | exact n8_ _ | rfl | exact PR_a (by assumption) | exact PR_o (by assumption) | exact PR_d4 (by assumption) | assumption) (by first | omega | (simp only [List.length_cons]; omega)) ⟨by first | decide | omega, by first | decide | omega, by first | decide | omega, by first | decide | omega⟩ (fun s1 h1 => ?_)
        | with_reducible refine q_tk (by assumption) ?_
        | with_reducible refine q_tkp (by assumption) (PR_a (by assumption)) (by omega) (fun s1 h1 => ?_)
        | with_reducible refine q_takeq (by assumption) (by first | exact nlo_ _ | rfl) (by first | decide | omega) (by first | decide | omega) (fun hk1 s1 h1 => ?_) ?_
        | with_reducible refine q_take' (by assumption) (by first | exact nlo_ _ | rfl) (by first | decide | omega) (by first | decide | omega) (fun hk1 s1 h1 => ?_) (fun hk0 => ?_)
        | with_reducible refine q_takep (by assumption) (PR_a (by assumption)) (by omega) (by first | exact nlo_ _ | rfl) (by first | decide | omega) (by first | decide | omega) (fun hk1 s1 h1 => ?_) (fun hk0 s1 h1 => ?_)
        | with_reducible refine q_openp (by assumption) (PR_a (by assumption)) (by omega) (by omega) (by omega) (fun s1 h1 => ?_) (fun hk1 hd1 s1 h1 => ?_)
        | with_reducible refine q_deep (by assumption) (fun hd0 => ?_) (fun hd1 s1 h1 => ?_) (by omega)
        | with_reducible refine q_openq (by assumption) (by omega) (by omega) ?_ (fun hk1 hd1 s1 h1 => ?_)
        | with_reducible refine q_shutS (by assumption) (by omega) (fun s1 e1 t1 => ?_) (fun s1 p1 d1 sc1 h1 hp1 => ?_)
        | with_reducible refine q_shut' (by assumption) (by first | exact nlo_ _ | exact nsb1_ (by omega) | exact nI_1 _ | exact n8_ _ | rfl | exact PR_a (by assumption) | exact PR_o (by assumption) | exact PR_d4 (by assumption) | assumption) (by first | exact nlo_ _ | exact nsb1_ (by omega) | exact nI_1 _ | exact n8_ _ | rfl | exact PR_a (by assumption) | exact PR_o (by assumption) | exact PR_d4 (by assumption) | assumption) (by first | exact nlo_ _ | exact nsb1_ (by omega) | exact nI_1 _ | exact n8_ _ | rfl | exact PR_a (by assumption) | exact PR_o (by assumption) | exact PR_d4 (by assumption) | assumption) (by first | exact nlo_ _ | exact nsb1_ (by omega) | exact nI_1 _ | exact n8_ _ | rfl | exact PR_a (by assumption) | exact PR_o (by assumption) | exact PR_d4 (by assumption) | assumption) (by omega) (by first | decide | omega) (by first | decide | omega) (fun hb1 s1 h1 _ => ?_)
        | with_reducible refine q_leaf' (by assumption) (by first | exact nlo_ _ | exact nsb1_ (by omega) | exact nI_1 _ | exact n8_ _ | rfl | exact PR_a (by assumption) | exact PR_o (by assumption) | exact PR_d4 (by assumption) | assumption) (by first | exact nlo_ _ | exact nsb1_ (by omega) | exact nI_1 _ | exact n8_ _ | rfl | exact PR_a (by assumption) | exact PR_o (by assumption) | exact PR_d4 (by assumption) | assumption) rfl (by omega) (by decide) (by first | decide | omega) (fun s1 h1 => ?_)
        | with_reducible refine q_leafp (by assumption) (PR_a (by assumption)) (by omega) (by first | exact nlo_ _ | exact nsb1_ (by omega) | exact nI_1 _ | exact n8_ _ | rfl | exact PR_a (by assumption) | exact PR_o (by assumption) | exact PR_d4 (by assumption) | assumption) (by first | exact nlo_ _ | exact nsb1_ (by omega) | exact nI_1 _ | exact n8_ _ | rfl | exact PR_a (by assumption) | exact PR_o (by assumption) | exact PR_d4 (by assumption) | assumption) rfl (by omega) (by decide) (by first | decide | omega) (fun s1 h1 => ?_)
        | with_reducible refine q_labels' (by assumption) (by omega) (by omega) (fun s1 os1 p1 n1 el1 h1 => ?_)
        | with_reducible refine q_tqy (by assumption) ?_
        | with_reducible refine q_tqn (by assumption) ?_
        | with_reducible refine q_30 (by assumption) (by omega) (fun s1 h1 => ?_)
        | rw [m_isD _ _ _ (PT_k h.1 _), bI_s]
        | rw [PR_a h2, mm_a_n (by omega) (by decide), Option.bind_some, (h2.1.2.2.1 _ (PT_lt h.1 (by assumption) (by decide))).2]
        | with_reducible refine q_ite (fun hk1 => ?_) (fun hk0 => ?_)
        | contradiction
        | with_reducible exact absurd (And.intro (by assumption) (by assumption)) (by assumption)
        | (exfalso; omega)
        | simp only [hdi, zb_0, Bool.false_eq_true, Bool.true_eq_false, fun q => nk q 1 (by decide), fun q => nk q 10 (by decide), fun q => nk q 11 (by decide), fun q => nk q 15 (by decide), fun q => nk q 25 (by decide), fun q => nk q 47 (by decide), fun q => nk q 49 (by decide), fun q => nk q 50 (by decide), fun q => nk q 52 (by decide), fun q => nk q 53 (by decide), fun q => nk q 54 (by decide), fun q => nk q 57 (by decide), fun q => nk q 61 (by decide), fun q => nk q 62 (by decide), fun q => nk q 63 (by decide), fun q => nk q 64 (by decide), fun q => nk q 65 (by decide), fun q => nk q 66 (by decide), fun q => nk q 67 (by decide), gpT, List.cons_append, List.nil_append, show (0 : Int32) &&& 1 = 0 from rfl, show (1 : Int32) &&& 1 = 1 from rfl, show ¬ ((1 : Int32) = 0) by decide, show ¬ ((0 : Int32) = 1) by decide, if_true, if_false, eq_self_iff_true]
        | split
    refine q_ite (fun hk1 => ?_) (fun hk57 => ?_)
    · repeat' first
        | with_reducible exact q_none
        | with_reducible exact q_ok (by assumption)
        | with_reducible exact q_okd (by assumption) (by omega)
        | with_reducible exact q_fl (by assumption)
        | with_reducible exact q_fl' (by assumption) (by assumption)
        | with_reducible exact q_okp (by assumption) (by omega) (PR_a (by assumption))
        | with_reducible refine q_goal' (by assumption) (by first | exact nlo_ _ | exact nsb1_ (by omega) | exact nI_1 _ | exact n8_ _ | rfl | exact PR_a (by assumption) | exact PR_o (by assumption) | exact PR_d4 (by assumption) | assumption) (by first | exact nlo_ _ | exact nsb1_ (by omega) | exact nI_1 _ | exact n8_ _ | rfl | exact PR_a (by assumption) | exact PR_o (by assumption) | exact PR_d4 (by assumption) | assumption) (by first | exact nlo_ _ | exact nsb1_ (by omega) | exact nI_1 _ | exact n8_ _ | rfl | exact PR_a (by assumption) | exact PR_o (by assumption) | exact PR_d4 (by assumption) | assumption) (by first | exact nlo_ _ | exact nsb1_ (by omega) | exact nI_1 _ | exact n8_ _ | rfl | exact PR_a (by assumption) | exact PR_o (by assumption) | exact PR_d4 (by assumption) | assumption) (by first | omega | (simp only [List.length_cons]; omega)) ⟨by first | decide | omega, by first | decide | omega, by first | decide | omega, by first | decide | omega⟩ (fun s1 h1 => ?_)
        | with_reducible refine q_goalp (by assumption) (PR_a (by assumption)) (by omega) (by first | exact nlo_ _ | exact nsb1_ (by omega) | exact nI_1 _ | exact n8_ _ | rfl | exact PR_a (by assumption) | exact PR_o (by assumption) | exact PR_d4 (by assumption) | assumption) (by first | exact nlo_ _ | exact nsb1_ (by omega) | exact nI_1 _ | exact n8_ _ | rfl | exact PR_a (by assumption) | exact PR_o (by assumption) | exact PR_d4 (by assumption) | assumption) (by first | exact nlo_ _ | exact nsb1_ (by omega) | exact nI_1 _ | exact n8_ _ | rfl | exact PR_a (by assumption) | exact PR_o (by assumption) | exact PR_d4 (by assumption) | assumption) (by first | exact nlo_ _ | exact nsb1_ (by omega) | exact nI_1 _ | exact n8_ _ | rfl | exact PR_a (by assumption) | exact PR_o (by assumption) | exact PR_d4 (by assumption) | assumption) (by first | omega | (simp only [List.length_cons]; omega)) ⟨by first | decide | omega, by first | decide | omega, by first | decide | omega, by first | decide | omega⟩ (fun s1 h1 => ?_)
        | with_reducible refine q_tk (by assumption) ?_
        | with_reducible refine q_tkp (by assumption) (PR_a (by assumption)) (by omega) (fun s1 h1 => ?_)
        | with_reducible refine q_takeq (by assumption) (by first | exact nlo_ _ | rfl) (by first | decide | omega) (by first | decide | omega) (fun hk1 s1 h1 => ?_) ?_
        | with_reducible refine q_take' (by assumption) (by first | exact nlo_ _ | rfl) (by first | decide | omega) (by first | decide | omega) (fun hk1 s1 h1 => ?_) (fun hk0 => ?_)
        | with_reducible refine q_takep (by assumption) (PR_a (by assumption)) (by omega) (by first | exact nlo_ _ | rfl) (by first | decide | omega) (by first | decide | omega) (fun hk1 s1 h1 => ?_) (fun hk0 s1 h1 => ?_)
        | with_reducible refine q_openp (by assumption) (PR_a (by assumption)) (by omega) (by omega) (by omega) (fun s1 h1 => ?_) (fun hk1 hd1 s1 h1 => ?_)
        | with_reducible refine q_deep (by assumption) (fun hd0 => ?_) (fun hd1 s1 h1 => ?_) (by omega)
        | with_reducible refine q_openq (by assumption) (by omega) (by omega) ?_ (fun hk1 hd1 s1 h1 => ?_)
        | with_reducible refine q_shutS (by assumption) (by omega) (fun s1 e1 t1 => ?_) (fun s1 p1 d1 sc1 h1 hp1 => ?_)
        | with_reducible refine q_shut' (by assumption) (by first | exact nlo_ _ | exact nsb1_ (by omega) | exact nI_1 _ | exact n8_ _ | rfl | exact PR_a (by assumption) | exact PR_o (by assumption) | exact PR_d4 (by assumption) | assumption) (by first | exact nlo_ _ | exact nsb1_ (by omega) | exact nI_1 _ | exact n8_ _ | rfl | exact PR_a (by assumption) | exact PR_o (by assumption) | exact PR_d4 (by assumption) | assumption) (by first | exact nlo_ _ | exact nsb1_ (by omega) | exact nI_1 _ | exact n8_ _ | rfl | exact PR_a (by assumption) | exact PR_o (by assumption) | exact PR_d4 (by assumption) | assumption) (by first | exact nlo_ _ | exact nsb1_ (by omega) | exact nI_1 _ | exact n8_ _ | rfl | exact PR_a (by assumption) | exact PR_o (by assumption) | exact PR_d4 (by assumption) | assumption) (by omega) (by first | decide | omega) (by first | decide | omega) (fun hb1 s1 h1 _ => ?_)
        | with_reducible refine q_leaf' (by assumption) (by first | exact nlo_ _ | exact nsb1_ (by omega) | exact nI_1 _ | exact n8_ _ | rfl | exact PR_a (by assumption) | exact PR_o (by assumption) | exact PR_d4 (by assumption) | assumption) (by first | exact nlo_ _ | exact nsb1_ (by omega) | exact nI_1 _ | exact n8_ _ | rfl | exact PR_a (by assumption) | exact PR_o (by assumption) | exact PR_d4 (by assumption) | assumption) rfl (by omega) (by decide) (by first | decide | omega) (fun s1 h1 => ?_)
        | with_reducible refine q_leafp (by assumption) (PR_a (by assumption)) (by omega) (by first | exact nlo_ _ | exact nsb1_ (by omega) | exact nI_1 _ | exact n8_ _ | rfl | exact PR_a (by assumption) | exact PR_o (by assumption) | exact PR_d4 (by assumption) | assumption) (by first | exact nlo_ _ | exact nsb1_ (by omega) | exact nI_1 _ | exact n8_ _ | rfl | exact PR_a (by assumption) | exact PR_o (by assumption) | exact PR_d4 (by assumption) | assumption) rfl (by omega) (by decide) (by first | decide | omega) (fun s1 h1 => ?_)
        | with_reducible refine q_labels' (by assumption) (by omega) (by omega) (fun s1 os1 p1 n1 el1 h1 => ?_)
        | with_reducible refine q_tqy (by assumption) ?_
        | with_reducible refine q_tqn (by assumption) ?_
        | with_reducible refine q_30 (by assumption) (by omega) (fun s1 h1 => ?_)
        | rw [m_isD _ _ _ (PT_k h.1 _), bI_s]
        | rw [PR_a h2, mm_a_n (by omega) (by decide), Option.bind_some, (h2.1.2.2.1 _ (PT_lt h.1 (by assumption) (by decide))).2]
        | with_reducible refine q_ite (fun hk1 => ?_) (fun hk0 => ?_)
        | contradiction
        | with_reducible exact absurd (And.intro (by assumption) (by assumption)) (by assumption)
        | (exfalso; omega)
        | simp only [hdi, zb_0, Bool.false_eq_true, Bool.true_eq_false, fun q => nk q 1 (by decide), fun q => nk q 10 (by decide), fun q => nk q 11 (by decide), fun q => nk q 15 (by decide), fun q => nk q 25 (by decide), fun q => nk q 47 (by decide), fun q => nk q 49 (by decide), fun q => nk q 50 (by decide), fun q => nk q 52 (by decide), fun q => nk q 53 (by decide), fun q => nk q 54 (by decide), fun q => nk q 57 (by decide), fun q => nk q 61 (by decide), fun q => nk q 62 (by decide), fun q => nk q 63 (by decide), fun q => nk q 64 (by decide), fun q => nk q 65 (by decide), fun q => nk q 66 (by decide), fun q => nk q 67 (by decide), gpT, List.cons_append, List.nil_append, show (0 : Int32) &&& 1 = 0 from rfl, show (1 : Int32) &&& 1 = 1 from rfl, show ¬ ((1 : Int32) = 0) by decide, show ¬ ((0 : Int32) = 1) by decide, if_true, if_false, eq_self_iff_true]
        | split
    rw [PR_a h2, show (nI (p + 1) - 1 : Int32) = nI p from nI_pred p]
    exact q_fl (PR_p h2 p (by omega))
set_option maxRecDepth 8000 in
set_option maxHeartbeats 1000000 in
theorem g_27 (d x y z : Nat) (h : PR K V N lx s (gs, os, p, dp, sc, n)) (hg : gs.length + 10 ≤ 9000) (hs : sc.length < 70) (hp : p ≤ N) (hn : n + (N - p) + 10 ≤ 26000) (hd : dp ≤ 60) (hx : x < 2 ^ 26) (hy : y < 2 ^ 26) (hz : z < 2 ^ 26) : pq_ K V N lx (pg_27 K V N lx x y z (gs, os, p, dp, sc, n)) (mE (d + 8) 37 [vr_ (some 0), vi_ (nI 27), vi_ (nI x), vi_ (nI y), vi_ (nI z)] s) := by
  have t2 := h.1.2.1
  have nk : ∀ q c, c < 2 ^ 31 → (nI (K q) = (OfNat.ofNat c : Int32)) = (K q = c) := fun q c hc => neq1_ c (PT_k h.1 q) hc
  have nx : ∀ c, c < 2 ^ 31 → (nI x = (OfNat.ofNat c : Int32)) = (x = c) := fun c hc => neq1_ c (by omega) hc
  have hol := PO_len h.2.2.2.2.2
  rw [me_reachC]
  refine q_tk h ?_
  rw [if_neg (by decide), if_neg (by decide), if_neg (by decide), if_neg (by decide), if_neg (by decide), if_neg (by decide), if_neg (by decide), if_neg (by decide), if_neg (by decide), if_neg (by decide), if_neg (by decide), if_neg (by decide), if_pos (by decide)]
  dsimp only [pg_27]
  have hx8 : x / 8192 < 8192 := by omega
  rw [show pj_rem (nI x) 8192 = some (nI (x % 8192)) from pj_rem_n x 8192 (by omega) (by decide) (by decide), Option.bind_some, show pj_div (nI x) 8192 = some (nI (x / 8192)) from pj_div_n x 8192 (by omega) (by decide) (by decide), Option.bind_some, Option.bind_some]
  simp only [neq_ (show x % 8192 < 2 ^ 31 by omega) (show x / 8192 < 2 ^ 31 by omega)]
  refine q_ite (fun hk => ?_) (fun hk => ?_)
  · by_cases hl : os.length = z + 2 * (x / 8192)
    · rw [if_pos hl, sf_pos (by omega)]
      obtain ⟨s', e, q⟩ := m_assign (d + 5) (m := x / 8192) (tok := y) (base := z) h (by omega) (by omega) hl (by omega)
      obtain ⟨s2, e2, q⟩ := q
      rw [show mE (d + 7) 22 [vr_ (some 0), vi_ 20, vi_ (nI y), vi_ (nI z), vi_ (nI (x / 8192))] s = _ from e, bI_s]
      rw [show mE (d + 7) 23 [vr_ (some 0), vi_ (nI n)] s' = _ from e2]
      exact ⟨s2, rfl, q⟩
    · rw [if_neg hl]
      exact q_none
  · repeat' first
      | with_reducible exact q_none
      | with_reducible exact q_ok (by assumption)
      | with_reducible exact q_okd (by assumption) (by omega)
      | with_reducible exact q_fl (by assumption)
      | with_reducible exact q_fl' (by assumption) (by assumption)
      | with_reducible exact q_okp (by assumption) (by omega) (PR_a (by assumption))
      | with_reducible refine q_goal' (by assumption) (by first | exact nlo_ _ | exact nsb1_ (by omega) | exact nI_1 _ | exact n8_ _ | rfl | exact PR_a (by assumption) | exact PR_o (by assumption) | exact PR_d4 (by assumption) | assumption) (by first | exact nlo_ _ | exact nsb1_ (by omega) | exact nI_1 _ | exact n8_ _ | rfl | exact PR_a (by assumption) | exact PR_o (by assumption) | exact PR_d4 (by assumption) | assumption) (by first | exact nlo_ _ | exact nsb1_ (by omega) | exact nI_1 _ | exact n8_ _ | rfl | exact PR_a (by assumption) | exact PR_o (by assumption) | exact PR_d4 (by assumption) | assumption) (by first | exact nlo_ _ | exact nsb1_ (by omega) | exact nI_1 _ | exact n8_ _ | rfl | exact PR_a (by assumption) | exact PR_o (by assumption) | exact PR_d4 (by assumption) | assumption) (by first | omega | (simp only [List.length_cons]; omega)) ⟨by first | decide | omega, by first | decide | omega, by first | decide | omega, by first | decide | omega⟩ (fun s1 h1 => ?_)
      | with_reducible refine q_goalp (by assumption) (PR_a (by assumption)) (by omega) (by first | exact nlo_ _ | exact nsb1_ (by omega) | exact nI_1 _ | exact n8_ _ | rfl | exact PR_a (by assumption) | exact PR_o (by assumption) | exact PR_d4 (by assumption) | assumption) (by first | exact nlo_ _ | exact nsb1_ (by omega) | exact nI_1 _ | exact n8_ _ | rfl | exact PR_a (by assumption) | exact PR_o (by assumption) | exact PR_d4 (by assumption) | assumption) (by first | exact nlo_ _ | exact nsb1_ (by omega) | exact nI_1 _ | exact n8_ _ | rfl | exact PR_a (by assumption) | exact PR_o (by assumption) | exact PR_d4 (by assumption) | assumption) (by first | exact nlo_ _ | exact nsb1_ (by omega) | exact nI_1 _ | exact n8_ _ | rfl | exact PR_a (by assumption) | exact PR_o (by assumption) | exact PR_d4 (by assumption) | assumption) (by first | omega | (simp only [List.length_cons]; omega)) ⟨by first | decide | omega, by first | decide | omega, by first | decide | omega, by first | decide | omega⟩ (fun s1 h1 => ?_)
      | with_reducible refine q_tk (by assumption) ?_
      | with_reducible refine q_tkp (by assumption) (PR_a (by assumption)) (by omega) (fun s1 h1 => ?_)
      | with_reducible refine q_takeq (by assumption) (by first | exact nlo_ _ | rfl) (by first | decide | omega) (by first | decide | omega) (fun hk1 s1 h1 => ?_) ?_
      | with_reducible refine q_take' (by assumption) (by first | exact nlo_ _ | rfl) (by first | decide | omega) (by first | decide | omega) (fun hk1 s1 h1 => ?_) (fun hk0 => ?_)
      | with_reducible refine q_takep (by assumption) (PR_a (by assumption)) (by omega) (by first | exact nlo_ _ | rfl) (by first | decide | omega) (by first | decide | omega) (fun hk1 s1 h1 => ?_) (fun hk0 s1 h1 => ?_)
      | with_reducible refine q_openp (by assumption) (PR_a (by assumption)) (by omega) (by omega) (by omega) (fun s1 h1 => ?_) (fun hk1 hd1 s1 h1 => ?_)
      | with_reducible refine q_deep (by assumption) (fun hd0 => ?_) (fun hd1 s1 h1 => ?_) (by omega)
      | with_reducible refine q_openq (by assumption) (by omega) (by omega) ?_ (fun hk1 hd1 s1 h1 => ?_)
      | with_reducible refine q_shutS (by assumption) (by omega) (fun s1 e1 t1 => ?_) (fun s1 p1 d1 sc1 h1 hp1 => ?_)
      | with_reducible refine q_shut' (by assumption) (by first | exact nlo_ _ | exact nsb1_ (by omega) | exact nI_1 _ | exact n8_ _ | rfl | exact PR_a (by assumption) | exact PR_o (by assumption) | exact PR_d4 (by assumption) | assumption) (by first | exact nlo_ _ | exact nsb1_ (by omega) | exact nI_1 _ | exact n8_ _ | rfl | exact PR_a (by assumption) | exact PR_o (by assumption) | exact PR_d4 (by assumption) | assumption) (by first | exact nlo_ _ | exact nsb1_ (by omega) | exact nI_1 _ | exact n8_ _ | rfl | exact PR_a (by assumption) | exact PR_o (by assumption) | exact PR_d4 (by assumption) | assumption) (by first | exact nlo_ _ | exact nsb1_ (by omega) | exact nI_1 _ | exact n8_ _ | rfl | exact PR_a (by assumption) | exact PR_o (by assumption) | exact PR_d4 (by assumption) | assumption) (by omega) (by first | decide | omega) (by first | decide | omega) (fun hb1 s1 h1 _ => ?_)
      | with_reducible refine q_leaf' (by assumption) (by first | exact nlo_ _ | exact nsb1_ (by omega) | exact nI_1 _ | exact n8_ _ | rfl | exact PR_a (by assumption) | exact PR_o (by assumption) | exact PR_d4 (by assumption) | assumption) (by first | exact nlo_ _ | exact nsb1_ (by omega) | exact nI_1 _ | exact n8_ _ | rfl | exact PR_a (by assumption) | exact PR_o (by assumption) | exact PR_d4 (by assumption) | assumption) rfl (by omega) (by decide) (by first | decide | omega) (fun s1 h1 => ?_)
      | with_reducible refine q_leafp (by assumption) (PR_a (by assumption)) (by omega) (by first | exact nlo_ _ | exact nsb1_ (by omega) | exact nI_1 _ | exact n8_ _ | rfl | exact PR_a (by assumption) | exact PR_o (by assumption) | exact PR_d4 (by assumption) | assumption) (by first | exact nlo_ _ | exact nsb1_ (by omega) | exact nI_1 _ | exact n8_ _ | rfl | exact PR_a (by assumption) | exact PR_o (by assumption) | exact PR_d4 (by assumption) | assumption) rfl (by omega) (by decide) (by first | decide | omega) (fun s1 h1 => ?_)
      | with_reducible refine q_labels' (by assumption) (by omega) (by omega) (fun s1 os1 p1 n1 el1 h1 => ?_)
      | with_reducible refine q_tqy (by assumption) ?_
      | with_reducible refine q_tqn (by assumption) ?_
      | with_reducible refine q_30 (by assumption) (by omega) (fun s1 h1 => ?_)
      | with_reducible refine q_ite (fun hk1 => ?_) (fun hk0 => ?_)
      | contradiction
      | with_reducible exact absurd (And.intro (by assumption) (by assumption)) (by assumption)
      | (exfalso; omega)
      | simp only [gpT, List.cons_append, List.nil_append, show (0 : Int32) &&& 1 = 0 from rfl, show (1 : Int32) &&& 1 = 1 from rfl, show ¬ ((1 : Int32) = 0) by decide, show ¬ ((0 : Int32) = 1) by decide, if_true, if_false, eq_self_iff_true]
      | split
end PRgoal
