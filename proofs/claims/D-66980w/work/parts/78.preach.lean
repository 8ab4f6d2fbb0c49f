/-! ===== reach; the loop of parse: by gen/gen_preach.py ===== -/
section PRreach
variable {K : Nat → Nat} {V : Nat → Int32} {N : Nat} {lx : Bool} {s : mm_S} {gs : List gl_} {os : List tr_} {p dp n : Nat} {sc : List (Int32 × Nat)} {r : pe_}
theorem q_dis {P : Prop} [Decidable P] {o : mm_O} {r1 r2 : pe_} (h1 : P → pq_ K V N lx r1 o) (h2 : ¬ P → pq_ K V N lx r2 o) : pq_ K V N lx (if P then r1 else r2) o := by
  by_cases h : P
  · rw [if_pos h]; exact h1 h
  · rw [if_neg h]; exact h2 h
theorem m_reach (d g x y z : Nat) (h : PR K V N lx s (gs, os, p, dp, sc, n)) (hb : gs.length + 10 ≤ 9000 ∧ sc.length < 70 ∧ p ≤ N ∧ n + (N - p) + 10 ≤ 26000 ∧ dp ≤ 60 ∧ x < 2 ^ 26 ∧ y < 2 ^ 26 ∧ z < 2 ^ 26) : pq_ K V N lx (pS_ K V N lx g x y z (gs, os, p, dp, sc, n)) (mE (d + 9) 33 [vr_ (some 0), vi_ (nI g), vi_ (nI x), vi_ (nI y), vi_ (nI z)] s) := by
  obtain ⟨b1, b2, b3, b4, b5, b6, b7, b8⟩ := hb
  unfold pS_
  refine q_dis (fun e => by subst e; exact g_1 (d + 1) x y z h b1 b2 b3 b4 b5 b6 b7 b8) (fun _ => ?_)
  refine q_dis (fun e => by subst e; exact g_2 (d + 1) x y z h b1 b2 b3 b4 b5 b6 b7 b8) (fun _ => ?_)
  refine q_dis (fun e => by subst e; rw [me_reach, if_pos (by decide), mj_reach_22, if_neg (by decide), if_neg (by decide), if_neg (by decide), if_neg (by decide), if_neg (by decide), if_neg (by decide), if_neg (by decide), if_neg (by decide), if_neg (by decide)]; exact q_ret (g_3 d x y z h b1 b2 b3 b4 b5 b6 b7 b8)) (fun _ => ?_)
  refine q_dis (fun e => by subst e; rw [me_reach, if_pos (by decide), mj_reach_22, if_neg (by decide), if_neg (by decide), if_neg (by decide), if_neg (by decide), if_neg (by decide), if_neg (by decide), if_neg (by decide), if_neg (by decide), if_neg (by decide)]; exact q_ret (g_4 d x y z h b1 b2 b3 b4 b5 b6 b7 b8)) (fun _ => ?_)
  refine q_dis (fun e => by subst e; rw [me_reach, if_pos (by decide), mj_reach_22, if_neg (by decide), if_neg (by decide), if_neg (by decide), if_neg (by decide), if_neg (by decide), if_neg (by decide), if_neg (by decide), if_neg (by decide), if_neg (by decide)]; exact q_ret (g_5 d x y z h b1 b2 b3 b4 b5 b6 b7 b8)) (fun _ => ?_)
  refine q_dis (fun e => by subst e; exact g_6 (d + 1) x y z h b1 b2 b3 b4 b5 b6 b7 b8) (fun _ => ?_)
  refine q_dis (fun e => by subst e; rw [me_reach, if_pos (by decide), mj_reach_22, if_neg (by decide), if_neg (by decide), if_neg (by decide), if_neg (by decide), if_neg (by decide), if_neg (by decide), if_neg (by decide), if_neg (by decide), if_neg (by decide)]; exact q_ret (g_7 d x y z h b1 b2 b3 b4 b5 b6 b7 b8)) (fun _ => ?_)
  refine q_dis (fun e => by subst e; rw [me_reach, if_pos (by decide), mj_reach_22, if_neg (by decide), if_neg (by decide), if_neg (by decide), if_neg (by decide), if_neg (by decide), if_neg (by decide), if_neg (by decide), if_neg (by decide), if_neg (by decide)]; exact q_ret (g_8 d x y z h b1 b2 b3 b4 b5 b6 b7 b8)) (fun _ => ?_)
  refine q_dis (fun e => by subst e; rw [me_reach, if_pos (by decide), mj_reach_22, if_neg (by decide), if_neg (by decide), if_neg (by decide), if_neg (by decide), if_neg (by decide), if_neg (by decide), if_neg (by decide), if_neg (by decide), if_neg (by decide)]; exact q_ret (g_9 d x y z h b1 b2 b3 b4 b5 b6 b7 b8)) (fun _ => ?_)
  refine q_dis (fun e => by subst e; rw [me_reach, if_pos (by decide), mj_reach_22, if_neg (by decide), if_neg (by decide), if_neg (by decide), if_neg (by decide), if_neg (by decide), if_neg (by decide), if_neg (by decide), if_neg (by decide), if_neg (by decide)]; exact q_ret (g_10 d x y z h b1 b2 b3 b4 b5 b6 b7 b8)) (fun _ => ?_)
  refine q_dis (fun e => by subst e; rw [me_reach, if_pos (by decide), mj_reach_22, if_neg (by decide), if_neg (by decide), if_neg (by decide), if_neg (by decide), if_neg (by decide), if_neg (by decide), if_neg (by decide), if_neg (by decide), if_pos (by decide)]; exact q_ret (g_11 d x y z h b1 b2 b3 b4 b5 b6 b7 b8)) (fun _ => ?_)
  refine q_dis (fun e => by subst e; rw [me_reach, if_pos (by decide), mj_reach_22, if_neg (by decide), if_neg (by decide), if_neg (by decide), if_neg (by decide), if_neg (by decide), if_neg (by decide), if_neg (by decide), if_neg (by decide), if_pos (by decide)]; exact q_ret (g_12 d x y z h b1 b2 b3 b4 b5 b6 b7 b8)) (fun _ => ?_)
  refine q_dis (fun e => by subst e; exact g_13 (d + 1) x y z h b1 b2 b3 b4 b5 b6 b7 b8) (fun _ => ?_)
  refine q_dis (fun e => by subst e; exact g_14 (d + 1) x y z h b1 b2 b3 b4 b5 b6 b7 b8) (fun _ => ?_)
  refine q_dis (fun e => by subst e; exact g_15 (d + 1) x y z h b1 b2 b3 b4 b5 b6 b7 b8) (fun _ => ?_)
  refine q_dis (fun e => by subst e; exact g_16 (d + 1) x y z h b1 b2 b3 b4 b5 b6 b7 b8) (fun _ => ?_)
  refine q_dis (fun e => by subst e; exact g_17 (d + 1) x y z h b1 b2 b3 b4 b5 b6 b7 b8) (fun _ => ?_)
  refine q_dis (fun e => by subst e; rw [me_reach, if_pos (by decide), mj_reach_22, if_neg (by decide), if_neg (by decide), if_neg (by decide), if_neg (by decide), if_neg (by decide), if_neg (by decide), if_neg (by decide), if_neg (by decide), if_pos (by decide)]; exact q_ret (g_18 d x y z h b1 b2 b3 b4 b5 b6 b7 b8)) (fun _ => ?_)
  refine q_dis (fun e => by subst e; rw [me_reach, if_pos (by decide), mj_reach_22, if_neg (by decide), if_neg (by decide), if_neg (by decide), if_neg (by decide), if_neg (by decide), if_neg (by decide), if_neg (by decide), if_neg (by decide), if_pos (by decide)]; exact q_ret (g_19 d x y z h b1 b2 b3 b4 b5 b6 b7 b8)) (fun _ => ?_)
  refine q_dis (fun e => by subst e; rw [me_reach, if_pos (by decide), mj_reach_22, if_neg (by decide), if_neg (by decide), if_neg (by decide), if_neg (by decide), if_neg (by decide), if_neg (by decide), if_neg (by decide), if_neg (by decide), if_pos (by decide)]; exact q_ret (g_20 d x y z h b1 b2 b3 b4 b5 b6 b7 b8)) (fun _ => ?_)
  refine q_dis (fun e => by subst e; rw [me_reach, if_pos (by decide), mj_reach_22, if_neg (by decide), if_neg (by decide), if_neg (by decide), if_neg (by decide), if_neg (by decide), if_neg (by decide), if_neg (by decide), if_neg (by decide), if_pos (by decide)]; exact q_ret (g_21 d x y z h b1 b2 b3 b4 b5 b6 b7 b8)) (fun _ => ?_)
  refine q_dis (fun e => by subst e; rw [me_reach, if_pos (by decide), mj_reach_22, if_neg (by decide), if_neg (by decide), if_neg (by decide), if_neg (by decide), if_neg (by decide), if_neg (by decide), if_neg (by decide), if_neg (by decide), if_pos (by decide)]; exact q_ret (g_22 d x y z h b1 b2 b3 b4 b5 b6 b7 b8)) (fun _ => ?_)
  refine q_dis (fun e => by subst e; rw [me_reach, if_pos (by decide), mj_reach_22, if_neg (by decide), if_neg (by decide), if_neg (by decide), if_neg (by decide), if_neg (by decide), if_neg (by decide), if_neg (by decide), if_neg (by decide), if_pos (by decide)]; exact q_ret (g_23 d x y z h b1 b2 b3 b4 b5 b6 b7 b8)) (fun _ => ?_)
  refine q_dis (fun e => by subst e; rw [me_reach, if_pos (by decide), mj_reach_22, if_neg (by decide), if_neg (by decide), if_neg (by decide), if_neg (by decide), if_neg (by decide), if_neg (by decide), if_neg (by decide), if_neg (by decide), if_pos (by decide)]; exact q_ret (g_24 d x y z h b1 b2 b3 b4 b5 b6 b7 b8)) (fun _ => ?_)
  refine q_dis (fun e => by subst e; rw [me_reach, if_pos (by decide), mj_reach_22, if_neg (by decide), if_neg (by decide), if_neg (by decide), if_neg (by decide), if_neg (by decide), if_neg (by decide), if_neg (by decide), if_neg (by decide), if_pos (by decide)]; exact q_ret (g_25 d x y z h b1 b2 b3 b4 b5 b6 b7 b8)) (fun _ => ?_)
  refine q_dis (fun e => by subst e; rw [me_reach, if_pos (by decide), mj_reach_22, if_neg (by decide), if_neg (by decide), if_neg (by decide), if_neg (by decide), if_neg (by decide), if_neg (by decide), if_neg (by decide), if_neg (by decide), if_pos (by decide)]; exact q_ret (g_26 d x y z h b1 b2 b3 b4 b5 b6 b7 b8)) (fun _ => ?_)
  refine q_dis (fun e => by subst e; rw [me_reach, if_pos (by decide), mj_reach_22, if_neg (by decide), if_neg (by decide), if_neg (by decide), if_neg (by decide), if_neg (by decide), if_neg (by decide), if_neg (by decide), if_neg (by decide), if_pos (by decide)]; exact q_ret (g_27 d x y z h b1 b2 b3 b4 b5 b6 b7 b8)) (fun _ => ?_)
  refine q_dis (fun e => by subst e; rw [me_reach, if_neg (by decide), if_neg (by decide)]; exact q_ret (g_28 d x y z h b1 b2 b3 b4 b5 b6 b7 b8)) (fun _ => ?_)
  refine q_dis (fun e => by subst e; rw [me_reach, if_neg (by decide), if_neg (by decide)]; exact q_ret (g_29 d x y z h b1 b2 b3 b4 b5 b6 b7 b8)) (fun _ => ?_)
  refine q_dis (fun e => by subst e; rw [me_reach, if_neg (by decide), if_neg (by decide)]; exact q_ret (g_30 d x y z h b1 b2 b3 b4 b5 b6 b7 b8)) (fun _ => ?_)
  refine q_dis (fun e => by subst e; rw [me_reach, if_neg (by decide), if_neg (by decide)]; exact q_ret (g_31 d x y z h b1 b2 b3 b4 b5 b6 b7 b8)) (fun _ => ?_)
  refine q_dis (fun e => by subst e; rw [me_reach, if_neg (by decide), if_neg (by decide)]; exact q_ret (g_32 d x y z h b1 b2 b3 b4 b5 b6 b7 b8)) (fun _ => ?_)
  refine q_dis (fun e => by subst e; rw [me_reach, if_neg (by decide), if_neg (by decide)]; exact q_ret (g_33 d x y z h b1 b2 b3 b4 b5 b6 b7 b8)) (fun _ => ?_)
  refine q_dis (fun e => by subst e; rw [me_reach, if_neg (by decide), if_neg (by decide)]; exact q_ret (g_34 d x y z h b1 b2 b3 b4 b5 b6 b7 b8)) (fun _ => ?_)
  refine q_dis (fun e => by subst e; rw [me_reach, if_neg (by decide), if_neg (by decide)]; exact q_ret (g_35 d x y z h b1 b2 b3 b4 b5 b6 b7 b8)) (fun _ => ?_)
  refine q_dis (fun e => by subst e; rw [me_reach, if_neg (by decide), if_neg (by decide)]; exact q_ret (g_36 d x y z h b1 b2 b3 b4 b5 b6 b7 b8)) (fun _ => ?_)
  refine q_dis (fun e => by subst e; rw [me_reach, if_neg (by decide), if_neg (by decide)]; exact q_ret (g_37 d x y z h b1 b2 b3 b4 b5 b6 b7 b8)) (fun _ => ?_)
  refine q_dis (fun e => by subst e; rw [me_reach, if_neg (by decide), if_neg (by decide)]; exact q_ret (g_38 d x y z h b1 b2 b3 b4 b5 b6 b7 b8)) (fun _ => ?_)
  refine q_dis (fun e => by subst e; rw [me_reach, if_neg (by decide), if_neg (by decide)]; exact q_ret (g_39 d x y z h b1 b2 b3 b4 b5 b6 b7 b8)) (fun _ => ?_)
  refine q_dis (fun e => by subst e; rw [me_reach, if_neg (by decide), if_neg (by decide)]; exact q_ret (g_40 d x y z h b1 b2 b3 b4 b5 b6 b7 b8)) (fun _ => ?_)
  refine q_dis (fun e => by subst e; rw [me_reach, if_neg (by decide), if_pos (by decide), mj_reach_22, if_neg (by decide), if_neg (by decide), if_neg (by decide), if_neg (by decide), if_neg (by decide), if_neg (by decide), if_neg (by decide), if_neg (by decide), if_pos (by decide)]; exact q_ret (g_41 d x y z h b1 b2 b3 b4 b5 b6 b7 b8)) (fun _ => ?_)
  exact q_none
def pG_ (R : ps_ → pe_) (e : pe_) : pe_ := match e with
  | none => none
  | some (.error e) => some (.error e)
  | some (.ok σ) => R σ
theorem pF_cons (R : ps_ → pe_) (g x y z : Nat) : pF_ K V N lx R ((g, x, y, z) :: gs, os, p, dp, sc, n) = if pb_ N gs sc p dp n x y z = true then pG_ R (pS_ K V N lx g x y z (gs, os, p, dp, sc, n)) else none := by
  show (match pb_ N gs sc p dp n x y z with | false => none | true => _) = _
  cases pb_ N gs sc p dp n x y z <;> rfl
theorem pF_mono : pj_mono (pF_ K V N lx) := by
  intro f g h x r q
  match x, q with
  | ([], _), q => exact q
  | ((_, _, _, _) :: gs, os, p, dp, sc, n), q =>
    rw [pF_cons] at q ⊢
    split at q
    · rename_i hb
      rw [if_pos hb]
      generalize pS_ K V N lx _ _ _ _ _ = e at q ⊢
      match e, q with
      | some (.error e), q => exact q
      | some (.ok σ), q => exact h _ _ q
    · cases q
theorem pF_cpt : pj_cpt (pF_ K V N lx) := by
  intro f g up h x r q
  match x, q with
  | ([], _), q => exact ⟨0, q⟩
  | ((_, _, _, _) :: gs, os, p, dp, sc, n), q =>
    rw [pF_cons] at q
    simp only [pF_cons]
    split at q
    · rename_i hb
      simp only [if_pos hb]
      generalize pS_ K V N lx _ _ _ _ _ = e at q ⊢
      match e, q with
      | some (.error e), q => exact ⟨0, q⟩
      | some (.ok σ), q => exact h _ _ q
    · cases q
theorem pR_eq (σ : ps_) : pR_ K V N lx σ = pF_ K V N lx (pR_ K V N lx) σ := pj_lfp_eq pF_mono pF_cpt σ
theorem m_parse_38 (d : Nat) : ∀ k σ (s : mm_S) res, PR K V N lx s σ → pj_fx (pF_ K V N lx) k σ = some res →
    match res with
    | .ok σ' => σ'.1 = [] ∧ ∃ s', PR K V N lx s' σ' ∧ mJ (d + 10) 32 38 [vr_ (some 0)] [] s = mJ (d + 10) 32 38 [vr_ (some 0)] [] s'
    | .error e => ∃ s', mJ (d + 10) 32 38 [vr_ (some 0)] [] s = some (some (vi_ 0), s') ∧ s' 0 43 = nI e ∧ PT K V N lx s' := by
  intro k
  induction k with
  | zero => intro σ s res h q; cases q
  | succ k ih =>
    intro σ s res h q
    match σ, h, q with
    | ([], σ), h, q =>
      have q : some (Except.ok ([], σ)) = some res := q
      cases q
      exact ⟨rfl, s, h, rfl⟩
    | ((g, x, y, z) :: gs, os, p, dp, sc, n), h, q =>
      have q : pF_ K V N lx (pj_fx (pF_ K V N lx) k) ((g, x, y, z) :: gs, os, p, dp, sc, n) = some res := q
      rw [pF_cons] at q
      by_cases hpb : pb_ N gs sc p dp n x y z = true
      case neg => rw [if_neg hpb] at q; cases q
      rw [if_pos hpb] at q
      have hpb := of_decide_eq_true hpb
      obtain ⟨t, ⟨a1, a2, a3, a4, a5, a6⟩, b, hG, c, o⟩ := h
      have a1 : s 0 38 = nI (gs.length + 1) := a1
      obtain ⟨⟨g1, g2, g3, g4⟩, gb, hG⟩ := hG
      have go : ∀ f j, ¬ (f = 0 ∧ j = 38) → mm_u s 0 38 (nI gs.length) f j = s f j := fun f j hh => mu_n hh
      have h2 : PR K V N lx (mm_u s 0 38 (nI gs.length)) (gs, os, p, dp, sc, n) := by
        refine ⟨PT_fr t (go _ _ (by omega)) (go _ _ (by omega)) (funext fun j => go _ _ (by omega)) (funext fun j => go _ _ (by omega)), ⟨mu_s, ?_, ?_, ?_, ?_, ?_⟩, b, PG_fr (fun f j _ _ _ => go _ _ (by omega)) hG, PX_fr (fun f j _ _ _ => go _ _ (by omega)) c, PO_fr (fun j _ => go _ _ (by omega)) (fun f j _ _ _ => go _ _ (by omega)) o⟩
        · exact (go _ _ (by omega)).trans a2
        · exact (go _ _ (by omega)).trans a3
        · exact (go _ _ (by omega)).trans a4
        · exact (go _ _ (by omega)).trans a5
        · exact (go _ _ (by omega)).trans a6
      have hr := m_reach d g x y z h2 hpb
      have step : mJ (d + 10) 32 38 [vr_ (some 0)] [] s = mm_bI (mE (d + 9) 33 [vr_ (some 0), vi_ (nI g), vi_ (nI x), vi_ (nI y), vi_ (nI z)] (mm_u s 0 38 (nI gs.length))) fun v6 s5 => if v6 = 0 then some (some (vi_ 0), s5) else mJ (d + 10) 32 38 [vr_ (some 0)] [] s5 := by
        rw [mj_parse_38, a1, if_pos (by show nI 0 < _; exact nI_lt (by omega) (by omega)), show (nI (gs.length + 1) - 1 : Int32) = nI gs.length from nI_pred _, mm_a_n (by omega) (by decide), Option.bind_some, mm_a_n (by omega) (by decide), Option.bind_some, mm_a_n (by omega) (by decide), Option.bind_some, mm_a_n (by omega) (by decide), Option.bind_some, go _ _ (by omega), go _ _ (by omega), go _ _ (by omega), go _ _ (by omega), g1, g2, g3, g4]
      generalize pS_ K V N lx g x y z (gs, os, p, dp, sc, n) = e at q hr
      match e, q, hr with
      | some (.error e), q, hr =>
        cases q
        obtain ⟨s', w1, w2, w3⟩ := hr
        exact ⟨s', by rw [step, w1]; rfl, w2, w3⟩
      | some (.ok σ'), q, hr =>
        obtain ⟨s', w1, w2⟩ := hr
        have := ih σ' s' res w2 q
        have st2 : mJ (d + 10) 32 38 [vr_ (some 0)] [] s = mJ (d + 10) 32 38 [vr_ (some 0)] [] s' := by rw [step, w1]; rfl
        match res, this with
        | .ok σ', this => exact ⟨this.1, this.2.choose, this.2.choose_spec.1, st2.trans this.2.choose_spec.2⟩
        | .error e, this => exact ⟨this.choose, st2.trans this.choose_spec.1, this.choose_spec.2⟩
/-- the whole parser: out of tokens, what the plain machine answers -/
theorem m_parse (d : Nat) (t : PT K V N lx s) {res : Except Nat ps_} (hr : pR_ K V N lx ([(1, 0, 0, 0)], [], 0, 0, [], 0) = some res) :
    match res with
    | .ok σ' => σ'.1 = [] ∧ (σ'.2.2.2.2.2 < 26000 → ∃ s', mE (d + 10) 32 [vr_ (some 0)] s = some (some (vi_ 1), s') ∧ PR K V N lx s' (sh_ 60 0 0 0 σ'))
    | .error e => ∃ s', mE (d + 10) 32 [vr_ (some 0)] s = some (some (vi_ 0), s') ∧ s' 0 43 = nI e ∧ PT K V N lx s' := by
  obtain ⟨k, hk⟩ := (pj_lfp_iff pF_mono _ _).mp hr
  have h0 : PR K V N lx (mm_u (mm_u (mm_u (mm_u (mm_u (mm_u s 0 38 0) 0 37 0) 0 24 0) 0 43 0) 0 44 0) 0 45 0) ([], [], 0, 0, [], 0) := by
    refine ⟨PT_fr t ?_ ?_ (funext fun j => ?_) (funext fun j => ?_), ⟨?_, ?_, ?_, ?_, ?_, ?_⟩, ⟨by omega, by decide⟩, trivial, trivial, trivial⟩
    all_goals simp [mm_u]
    all_goals rfl
  obtain ⟨s1, e1, h1⟩ : ∃ s1, mE (d + 9) 24 [vr_ (some 0), vi_ 1, vi_ 0, vi_ 0, vi_ 0] (mm_u (mm_u (mm_u (mm_u (mm_u (mm_u s 0 38 0) 0 37 0) 0 24 0) 0 43 0) 0 44 0) 0 45 0) = some (none, s1) ∧ PR K V N lx s1 ([(1, 0, 0, 0)], [], 0, 0, [], 0) := by
    have q := q_goal (r := some (.ok ([(1, 0, 0, 0)], [], 0, 0, [], 0))) (d := d + 8) (k := fun s1 => some (some (vi_ 1), s1)) 1 0 0 0 h0 (by decide) (by decide) (fun s1 h1 => ⟨s1, rfl, h1⟩)
    obtain ⟨s1, w1, w2⟩ := q
    refine ⟨s1, ?_, w2⟩
    unfold mm_bV at w1
    split at w1
    · rename_i s2 he
      cases w1
      exact he
    · cases w1
  have e0 : mE (d + 10) 32 [vr_ (some 0)] s = mJ (d + 10) 32 38 [vr_ (some 0)] [] s1 := by
    rw [me_parse, e1]
    rfl
  have := m_parse_38 d k _ s1 res h1 hk
  match res, this with
  | .ok (gs, os, p, dp, sc, n), this =>
    obtain ⟨g0, s2, h2, e2⟩ := this
    have g0 : gs = [] := g0
    subst g0
    refine ⟨rfl, fun hn => ?_⟩
    have hn : n < 26000 := hn
    have q := q_shut (r := some (.ok (sh_ 60 0 0 0 ([], os, p, dp, sc, n)))) (d := d + 7) (kk := fun _ s1 => some (some (vi_ 1), s1)) 60 0 0 0 h2 hn (by decide) (by decide) (by omega) (fun s1 h1 _ => ⟨s1, rfl, h1⟩)
    obtain ⟨s3, w1, w2⟩ := q
    refine ⟨s3, ?_, w2⟩
    have h38 : s2 0 38 = nI 0 := h2.2.1.1
    rw [e0, e2, mj_parse_38, h38, if_neg (by decide)]
    exact w1
  | .error e, this =>
    obtain ⟨s2, w1, w2⟩ := this
    exact ⟨s2, e0.trans w1, w2⟩
end PRreach
