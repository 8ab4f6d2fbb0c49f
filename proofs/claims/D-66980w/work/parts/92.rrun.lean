/-! ===== a whole run of the reference ===== -/
/-- what is next is done until a run ends -/
def rF_ (z : mm_S) (rb : Nat → tr_) (R : rs_t → Option rs_t) : rs_t → Option rs_t
  | (td, vs, fr, q) => if q 0 102 = 0 then (match td with
      | [] => some (td, vs, fr, q)
      | x :: td => if td.length + 27000 ≤ 620000 ∧ vs.length + 10 ≤ 300000 ∧ fr.length ≤ 100 then (dn_ z rb (lb_r z rb) x td vs fr q).bind R else none)
    else some (td, vs, fr, q)
noncomputable def rR_ (z : mm_S) (rb : Nat → tr_) (σ : rs_t) : Option rs_t := pj_lfp (rF_ z rb) σ
/-- the store at first -/
def si_ : List (Int32 × Int32) → (Nat → Int32) → Nat → Int32
  | [], f => f
  | x :: l, f => si_ l (upd f x.1.toNatClampNeg x.2)
section RRrun
variable {z s q : mm_S} {td : List tqT} {vs : List Int32} {fr : List (Int32 × Int32)} {rb : Nat → tr_}
theorem rF_c (R : rs_t → Option rs_t) : rF_ z rb R (td, vs, fr, q) = if q 0 102 = 0 then (match td with
      | [] => some (td, vs, fr, q)
      | x :: td => if td.length + 27000 ≤ 620000 ∧ vs.length + 10 ≤ 300000 ∧ fr.length ≤ 100 then (dn_ z rb (lb_r z rb) x td vs fr q).bind R else none)
    else some (td, vs, fr, q) := rfl
theorem rF_mono : pj_mono (rF_ z rb) := by
  intro f g h x r e
  obtain ⟨td, vs, fr, q⟩ := x
  rw [rF_c] at e ⊢
  by_cases h1 : q 0 102 = 0
  · rw [if_pos h1] at e ⊢
    cases td with
    | nil => exact e
    | cons x td =>
      dsimp only at e ⊢
      by_cases h2 : td.length + 27000 ≤ 620000 ∧ vs.length + 10 ≤ 300000 ∧ fr.length ≤ 100
      · rw [if_pos h2] at e ⊢
        exact pj_bind_up e (fun _ _ q => h _ _ q)
      · rw [if_neg h2] at e; cases e
  · rw [if_neg h1] at e ⊢
    exact e
theorem rF_cpt : pj_cpt (rF_ z rb) := by
  intro f g up h x r e
  obtain ⟨td, vs, fr, q⟩ := x
  rw [rF_c] at e
  simp only [rF_c]
  by_cases h1 : q 0 102 = 0
  · rw [if_pos h1] at e
    simp only [if_pos h1]
    cases td with
    | nil => exact ⟨0, e⟩
    | cons x td =>
      dsimp only at e ⊢
      by_cases h2 : td.length + 27000 ≤ 620000 ∧ vs.length + 10 ≤ 300000 ∧ fr.length ≤ 100
      · rw [if_pos h2] at e
        simp only [if_pos h2]
        exact pj_bind_cp e (fun _ _ q => h _ _ q)
      · rw [if_neg h2] at e; cases e
  · rw [if_neg h1] at e
    simp only [if_neg h1]
    exact ⟨0, e⟩
theorem rR_eq (σ : rs_t) : rR_ z rb σ = rF_ z rb (rR_ z rb) σ := pj_lfp_eq rF_mono rF_cpt σ
theorem m_run_172 (d : Nat) (hrb : ∀ j, j < 3100 → z 72 j = rt_ (rb j) ∧ Rs z (rb j)) : ∀ k (σ σ' : rs_t) (s : mm_S), RR z s σ → pj_fx (rF_ z rb) k σ = some σ' →
    ∃ s', RR z s' σ' ∧ mJ (d + 11) 139 172 [vr_ (some 0)] [] s = mJ (d + 11) 139 172 [vr_ (some 0)] [] s' ∧ (σ'.2.2.2 0 102 = 0 → σ'.1 = []) := by
  intro k
  induction k with
  | zero => intro σ σ' s _ e; cases e
  | succ k ih =>
    intro σ σ' s h e
    obtain ⟨td, vs, fr, q⟩ := σ
    have e : rF_ z rb (pj_fx (rF_ z rb) k) (td, vs, fr, q) = some σ' := e
    rw [rF_c] at e
    by_cases h1 : q 0 102 = 0
    · rw [if_pos h1] at e
      cases td with
      | nil =>
        cases e
        exact ⟨s, h, rfl, fun _ => rfl⟩
      | cons x td =>
        dsimp only at e
        by_cases h2 : td.length + 27000 ≤ 620000 ∧ vs.length + 10 ≤ 300000 ∧ fr.length ≤ 100
        · rw [if_pos h2] at e
          have hd := r_doNext d (d + 5) (by omega) rb (lb_r z rb) hrb (fun wh mn at0 td vs fr s q a b c e d' hd' => by
            obtain ⟨m, rfl⟩ : ∃ m, d' = m + 5 := ⟨d' - 5, by omega⟩
            exact r_lib m rb hrb wh mn at0 a b c e) h h2.2.2 ⟨h2.1, h2.2.1⟩
          cases hx : dn_ z rb (lb_r z rb) x td vs fr q with
          | none => rw [hx] at e; cases e
          | some σ1 =>
            rw [hx] at e hd
            obtain ⟨s1, g1, g2⟩ := hd
            obtain ⟨s', w1, w2, w3⟩ := ih σ1 σ' s1 g2 e
            refine ⟨s', w1, ?_, w3⟩
            rw [← w2]
            conv => lhs; rw [mj_run_172]
            have e102 : s 0 102 = 0 := (RR_qq h (f := 0) (i := 102) (by unfold qf_; omega)).trans h1
            have e87 : s 0 87 = nI (td.length + 1) := h.2.2.1.1
            rw [if_pos e102, e87, if_pos (by show nI 0 < _; exact nI_lt (by omega) (by omega)), g1]
            rfl
        · rw [if_neg h2] at e; cases e
    · rw [if_neg h1] at e
      cases e
      exact ⟨s, h, rfl, fun hc => absurd hc h1⟩
theorem m_run_27 (d : Nat) {x : Int32} : ∀ m j (s : mm_S), j + m = 65536 → ∃ s', mJ (d + 1) 139 27 [vr_ (some 0), vi_ x, vi_ (nI j)] [] s = mJ (d + 1) 139 49 [vr_ (some 0), vi_ x, vi_ 0] [] s' ∧ (∀ f i, f ≠ 98 → s' f i = s f i) ∧ (∀ i, i < j → s' 98 i = s 98 i) ∧ (∀ i, j ≤ i → i < 65536 → s' 98 i = 0) := by
  intro m
  induction m with
  | zero =>
    intro j s hj
    obtain rfl : j = 65536 := by omega
    rw [mj_run_27, if_neg (by decide)]
    exact ⟨s, rfl, fun _ _ _ => rfl, fun _ _ => rfl, fun i _ _ => by omega⟩
  | succ m ih =>
    intro j s hj
    rw [mj_run_27, show (65536 : Int32) = nI 65536 from rfl, if_pos (nI_lt (by omega) (by decide)), mm_w_n (by omega) (by decide), Option.bind_some, nI_1]
    obtain ⟨s', g1, g2, g3, g4⟩ := ih (j + 1) (mm_u s 98 j 0) (by omega)
    refine ⟨s', g1, fun f i hf => ?_, fun i hi => ?_, fun i h1 h2 => ?_⟩
    · rw [g2 f i hf, mu_n (by omega)]
    · rw [g3 i (by omega), mu_n (by omega)]
    · by_cases hij : i = j
      · subst hij
        rw [g3 i (by omega), mu_s]
      · exact g4 i (by omega) h2
theorem m_run_49 (d : Nat) {x : Int32} {n : Nat} (hn : n ≤ 9000) : ∀ (l : List (Int32 × Int32)) (j : Nat) (s : mm_S), j + l.length = n → s 0 84 = nI n → (∀ i y, l[i]? = some y → s 85 (j + i) = y.1 ∧ s 86 (j + i) = y.2 ∧ ¬ y.1 < 0 ∧ y.1.toNatClampNeg < 65536) →
    ∃ s', mJ (d + 1) 139 49 [vr_ (some 0), vi_ x, vi_ (nI j)] [] s = mJ (d + 1) 139 49 [vr_ (some 0), vi_ x, vi_ (nI n)] [] s' ∧ (∀ f i, f ≠ 98 → s' f i = s f i) ∧ s' 98 = si_ l (s 98) := by
  intro l
  induction l with
  | nil =>
    intro j s hj _ _
    simp at hj
    subst hj
    exact ⟨s, rfl, fun _ _ _ => rfl, rfl⟩
  | cons y l ih =>
    intro j s hj h84 hl
    simp only [List.length_cons] at hj
    obtain ⟨a1, a2, a3, a4⟩ := hl 0 y (by simp)
    have a1 : s 85 j = y.1 := a1
    have a2 : s 86 j = y.2 := a2
    obtain ⟨en, en2⟩ := clamp_nI y.1 a3
    rw [mj_run_49, h84, if_pos (nI_lt (by omega) (by omega)), mm_a_n (by omega) (by decide), Option.bind_some, mm_a_n (by omega) (by decide), Option.bind_some, a1, a2]
    have ew : mm_w 65536 98 y.1 y.2 s = some (mm_u s 98 y.1.toNatClampNeg y.2) := by
      conv => lhs; rw [en]
      exact mm_w_n a4 (by decide)
    rw [ew, Option.bind_some, nI_1]
    obtain ⟨s', g1, g2, g3⟩ := ih (j + 1) (mm_u s 98 y.1.toNatClampNeg y.2) (by omega) (by rw [mu_n (by omega), h84]) (fun i w hw => by
      have := hl (i + 1) w (by simpa using hw)
      rw [mu_n (by omega), mu_n (by omega), show j + 1 + i = j + (i + 1) by omega]
      exact this)
    refine ⟨s', g1, fun f i hf => ?_, ?_⟩
    · rw [g2 f i hf, mu_n (by omega)]
    · rw [g3]
      have : mm_u s 98 y.1.toNatClampNeg y.2 98 = upd (s 98) y.1.toNatClampNeg y.2 := by
        funext i
        simp [mm_u, upd]
      rw [this]
      rfl
/-- a run out of what was compiled: z holds the tree, it what words hold at first -/
theorem m_run (d : Nat) {x : Int32} {it : List (Int32 × Int32)} {si : Nat} (hrb : ∀ j, j < 3100 → s 72 j = rt_ (rb j) ∧ Rs s (rb j)) (h105 : ¬ s 0 105 = 0) (hx0 : ¬ x < 0) (hx1 : ¬ 100000 < x) (hn : it.length ≤ 9000) (h84 : s 0 84 = nI it.length) (hit : ∀ i y, it[i]? = some y → s 85 i = y.1 ∧ s 86 i = y.2 ∧ ¬ y.1 < 0 ∧ y.1.toNatClampNeg < 65536) (h82 : s 0 82 = nI si) (hsi : si < 26000) :
    ∃ s0 : mm_S, (∀ f i, f ≠ 98 → f ≠ 116 → f ≠ 0 → s0 f i = s f i) ∧ (∀ i, i < 65536 → s0 98 i = si_ it (fun _ => 0) i) ∧ (s0 0 106 = 0 ∧ s0 0 114 = 0 ∧ s0 0 117 = 0 ∧ s0 116 0 = 0 ∧ s0 116 1 = 0 ∧ s0 0 101 = x ∧ s0 0 102 = 0 ∧ s0 0 103 = 0 ∧ s0 0 104 = 0 ∧ s0 0 96 = 0 ∧ s0 0 97 = 0 ∧ s0 0 0 = 0) ∧
      (∀ i, ¬ (i = 0 ∨ i = 87 ∨ i = 91 ∨ i = 95 ∨ i = 96 ∨ i = 97 ∨ (101 ≤ i ∧ i ≤ 104) ∨ i = 106 ∨ i = 114 ∨ i = 117) → s0 0 i = s 0 i) ∧
      ∀ td vs fr q, ((en_ s rb (s 29 si) (s 0 81) 0 [] [] [] s0).bind (rR_ s rb)) = some (td, vs, fr, q) →
        (q 0 102 = 0 → td = [] ∧ ∀ v ws, vs = v :: ws → ws.length < 300000 → ∃ s', mE (d + 11) 139 [vr_ (some 0), vi_ x] s = some (some (vi_ (q 0 103)), s') ∧ RR s s' ([], ws, fr, mm_u q 0 104 v)) ∧
        (¬ q 0 102 = 0 → ∃ s', mE (d + 11) 139 [vr_ (some 0), vi_ x] s = some (some (vi_ (q 0 103)), s') ∧ RR s s' (td, vs, fr, q)) := by
  obtain ⟨s1, a1, a2, _, a4⟩ := m_run_27 (d + 10) (x := x) 65536 0 (mm_u s 0 0 0) (by omega)
  obtain ⟨s2, b1, b2, b3⟩ := m_run_49 (d + 10) (x := x) hn it 0 s1 (by omega) (by rw [a2 _ _ (by decide), mu_n (by omega), h84]) (fun i y hy => by
    rw [Nat.zero_add, a2 _ _ (by decide), a2 _ _ (by decide), mu_n (by omega), mu_n (by omega)]
    exact hit i y hy)
  have f2 : ∀ f i, f ≠ 98 → ¬ (f = 0 ∧ i = 0) → s2 f i = s f i := fun f i h1 h2 => by rw [b2 f i h1, a2 f i h1, mu_n h2]
  have f20 : s2 0 0 = 0 := by rw [b2 _ _ (by decide), a2 _ _ (by decide), mu_s]
  have hstart : mE (d + 11) 139 [vr_ (some 0), vi_ x] s = mJ (d + 10 + 1) 139 49 [vr_ (some 0), vi_ x, vi_ (nI it.length)] [] s2 := by
    rw [me_run, if_neg h105, if_neg hx0, if_neg hx1]
    exact a1.trans b1
  rw [mj_run_49, show s2 0 84 = nI it.length by rw [f2 _ _ (by decide) (by omega), h84], if_neg (nI_nlt (Nat.le_refl _) (by omega)), show (0 : Int32) = nI 0 from rfl, show (1 : Int32) = nI 1 from rfl, mm_w_n (n := 0) (N := 2) (by decide) (by decide), Option.bind_some, mm_w_n (n := 1) (N := 2) (by decide) (by decide), Option.bind_some] at hstart
  generalize hs5 : mm_u (mm_u (mm_u (mm_u (mm_u s2 0 106 (nI 0)) 0 114 (nI 0)) 0 117 (nI 0)) 116 0 (nI 0)) 116 1 (nI 0) = s5 at hstart
  have f5 : ∀ f i, f ≠ 98 → f ≠ 116 → ¬ (f = 0 ∧ (i = 0 ∨ i = 106 ∨ i = 114 ∨ i = 117)) → s5 f i = s f i := fun f i h1 h2 h3 => by
    rw [← hs5, mu_n (by omega), mu_n (by omega), mu_n (by omega), mu_n (by omega), mu_n (by omega), f2 f i h1 (by omega)]
  generalize hs0 : mm_u (mm_u (mm_u (mm_u (mm_u (mm_u (mm_u (mm_u (mm_u s5 0 101 x) 0 102 (nI 0)) 0 103 (nI 0)) 0 104 (nI 0)) 0 87 (nI 0)) 0 91 (nI 0)) 0 95 (nI 0)) 0 96 (nI 0)) 0 97 (nI 0) = s0 at hstart
  have f0 : ∀ f i, ¬ (f = 0 ∧ (i = 87 ∨ i = 91 ∨ i = 95 ∨ i = 96 ∨ i = 97 ∨ (101 ≤ i ∧ i ≤ 104))) → s0 f i = s5 f i := fun f i h1 => by
    rw [← hs0, mu_n (by omega), mu_n (by omega), mu_n (by omega), mu_n (by omega), mu_n (by omega), mu_n (by omega), mu_n (by omega), mu_n (by omega), mu_n (by omega)]
  have v0 : s0 0 87 = 0 ∧ s0 0 91 = 0 ∧ s0 0 95 = 0 ∧ s0 0 96 = 0 ∧ s0 0 97 = 0 ∧ s0 0 101 = x ∧ s0 0 102 = 0 ∧ s0 0 103 = 0 ∧ s0 0 104 = 0 := by
    rw [← hs0]
    refine ⟨?_, ?_, ?_, ?_, ?_, ?_, ?_, ?_, ?_⟩ <;> simp [mm_u] <;> rfl
  have v5 : s5 0 106 = 0 ∧ s5 0 114 = 0 ∧ s5 0 117 = 0 ∧ s5 116 0 = 0 ∧ s5 116 1 = 0 ∧ s5 0 0 = 0 := by
    rw [← hs5]
    refine ⟨?_, ?_, ?_, ?_, ?_, ?_⟩
    · simp [mm_u]; rfl
    · simp [mm_u]; rfl
    · simp [mm_u]; rfl
    · simp [mm_u]; rfl
    · simp [mm_u]; rfl
    · simp [mm_u, f20]
  obtain ⟨u1, u2, u3, u4, u5, u6, u7, u8, u9⟩ := v0
  obtain ⟨w1, w2, w3, w4, w5, w6⟩ := v5
  have hst : ∀ i, i < 65536 → s0 98 i = si_ it (fun _ => 0) i := by
    have e98 : s0 98 = si_ it (s1 98) := by
      funext i
      rw [f0 _ _ (by omega), ← hs5, mu_n (by omega), mu_n (by omega), mu_n (by omega), mu_n (by omega), mu_n (by omega), b3]
    have gen : ∀ (l : List (Int32 × Int32)) (f g : Nat → Int32), (∀ i, i < 65536 → f i = g i) → ∀ i, i < 65536 → si_ l f i = si_ l g i := fun l => by
      induction l with
      | nil => intro f g h i hi; exact h i hi
      | cons y l ih =>
        intro f g h i hi
        refine ih _ _ (fun j hj => ?_) i hi
        unfold upd
        split
        · rfl
        · exact h j hj
    intro i hi
    rw [e98]
    exact gen it _ _ (fun j hj => a4 j (Nat.zero_le _) hj) i hi
  have hRR : RR s s0 ([], [], [], s0) := by
    refine ⟨fun f i hz => ?_, fun f i _ => rfl, ⟨u1, u2, u3⟩, trivial, trivial, trivial⟩
    unfold zf_ at hz
    rw [f0 _ _ (by omega), f5 _ _ (by omega) (by omega) (by omega)]
  refine ⟨s0, fun f i h1 h2 h3 => ?_, hst, ⟨?_, ?_, ?_, ?_, ?_, u6, u7, u8, u9, u4, u5, ?_⟩, fun i hi => ?_, fun td vs fr q he => ?_⟩
  · rw [f0 _ _ (by omega), f5 _ _ h1 h2 (by omega)]
  · rw [f0 _ _ (by omega), w1]
  · rw [f0 _ _ (by omega), w2]
  · rw [f0 _ _ (by omega), w3]
  · rw [f0 _ _ (by omega), w4]
  · rw [f0 _ _ (by omega), w5]
  · rw [f0 _ _ (by omega), w6]
  · rw [f0 _ _ (by omega), f5 _ _ (by decide) (by decide) (by omega)]
  have e82 : s5 0 82 = nI si := by rw [f5 _ _ (by decide) (by decide) (by omega), h82]
  have e81 : s5 0 81 = s 0 81 := f5 _ _ (by decide) (by decide) (by omega)
  have e29 : s0 29 si = s 29 si := by rw [f0 _ _ (by omega), f5 _ _ (by decide) (by decide) (by omega)]
  rw [e82, mm_a_n hsi (by decide), Option.bind_some, e29, e81] at hstart
  have hen := r_enter (d + 7) rb (s 29 si) (s 0 81) 0 hrb hRR (by decide) ⟨by simp, by simp⟩
  cases hE : en_ s rb (s 29 si) (s 0 81) 0 [] [] [] s0 with
  | none => rw [hE] at he; cases he
  | some σ1 =>
    rw [hE] at he hen
    obtain ⟨s7, g1, g2⟩ := hen
    have g1 : mE (d + 10) 106 [vr_ (some 0), vi_ (s 29 si), vi_ (s 0 81), vi_ (nI 0)] s0 = some (none, s7) := g1
    rw [g1] at hstart
    obtain ⟨k, hk⟩ := (pj_lfp_iff rF_mono _ _).mp he
    obtain ⟨s8, r1, r2, r3⟩ := m_run_172 d hrb k σ1 _ s7 g2 hk
    have hstart : mE (d + 11) 139 [vr_ (some 0), vi_ x] s = mJ (d + 11) 139 172 [vr_ (some 0)] [] s7 := hstart
    rw [r2, mj_run_172] at hstart
    have e102 := RR_qq r1 (f := 0) (i := 102) (by unfold qf_; omega)
    have e103 := RR_qq r1 (f := 0) (i := 103) (by unfold qf_; omega)
    refine ⟨fun h0 => ?_, fun h0 => ?_⟩
    · have ht : td = [] := r3 h0
      subst ht
      refine ⟨rfl, fun v ws hv hws => ?_⟩
      subst hv
      rw [if_pos (e102.trans h0), show s8 0 87 = nI 0 from r1.2.2.1.1, if_neg (by decide), if_pos (e102.trans h0)] at hstart
      have hp : ∃ s9, mE (d + 10) 96 [vr_ (some 0)] s8 = some (some (vi_ v), s9) ∧ RR s s9 ([], ws, fr, q) := by
        have c2 : s8 0 91 = nI (ws.length + 1) := r1.2.2.1.2.1
        have hv := r1.2.2.2.2.1
        rw [me_pop, c2, show (nI (ws.length + 1) - 1 : Int32) = nI ws.length from nI_pred _, mm_a_n hws (by decide), Option.bind_some, mu_n (by omega), hv.1]
        exact ⟨_, rfl, RR_vs r1 hv.2⟩
      obtain ⟨s9, p1, p2⟩ := hp
      rw [p1, bI_s, RR_qq p2 (f := 0) (i := 103) (by unfold qf_; omega)] at hstart
      exact ⟨_, hstart, RR_q p2 v (by unfold qf_; omega)⟩
    · have hne : ¬ s8 0 102 = 0 := fun hc => h0 (e102.symm.trans hc)
      rw [if_neg hne, if_neg hne, e103] at hstart
      exact ⟨s8, hstart, r1⟩
end RRrun
