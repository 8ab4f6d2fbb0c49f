/-! ===== constant: the whole ===== -/
section Kwhole
variable {z q : mm_S} {ts : List (Nat × tr_ × Int32)} {es : List enT} {sv : List Int32}
theorem m_kv_H {d : Nat} {k i : Nat} {v : Nat × Int32 × Nat × Nat × Bool} {l r : tr_} (hl : PH z ts es sv q d l) (hm : PH z ts es sv q d (nx_r l)) (hm2 : PH z ts es sv q d (nx_r (nx_r l))) (hc : PC z ts es sv q d (nx_r l)) : PH z ts es sv q d (.inner k i v l r) := by
  intro n w s res h ht h60 h61 hk
  have hroom := kv_room hk
  have h60' : s 60 n = nI i := h60
  rw [kv_0, if_neg (by omega)] at hk
  have f6 : ∀ (x : Int32) f j, f = 60 ∨ f = 61 → j < n → mm_u s 62 w x f j = s f j := fun x f j hf hj => mu_n (by omega)
  have f2 : ∀ (x : Int32) j, j < w → mm_u s 62 w x 62 j = s 62 j := fun x j hj => mu_n (by omega)
  by_cases c2 : k = 2
  · rw [if_pos c2] at hk
    cases hk
    rw [kt_num d h ht hroom.1 hroom.2 h60' c2]
    exact ⟨_, rfl, CR_w h _ (by omega), mu_s, f6 _, f2 _⟩
  rw [if_neg c2] at hk
  by_cases c1 : k = 1
  · rw [if_pos c1] at hk
    cases hmn : mn_k (q 29 i) es with
    | none => rw [hmn] at hk; exact nomatch hk
    | some e =>
      rw [hmn] at hk
      cases hk
      rw [kt_name d h ht hroom.1 hroom.2 h60' c1 hmn]
      exact ⟨_, rfl, CR_w h _ (by omega), mu_s, f6 _, f2 _⟩
  rw [if_neg c1] at hk
  -- the first part
  have first : ∀ (X : Int32 → kx_), kxb (kv_ z es q l 0 0 (n + 1) w) X = some res → (∀ c s1, CR z s1 (ts, es, sv, q) → s1 60 n = nI i → s1 61 n = 1 → s1 62 w = c → n + 1 < 26000 → (∀ f j, f = 60 ∨ f = 61 → j < n → s1 f j = s f j) → (∀ j, j < w → s1 62 j = s 62 j) → X c = some res → KQ z ts es sv q d n w s (mJ (d + 3) 59 40 [vr_ (some 0), vi_ (nI (n + 1)), vi_ (nI (w + 1))] [] s1) res) → KQ z ts es sv q d n w s (mJ (d + 3) 59 40 [vr_ (some 0), vi_ (nI (n + 1)), vi_ (nI w)] [] s) res := by
    intro X hX go
    have hr1 : n + 1 < 26000 := by
      rcases kxb_s hX with ⟨p, h1, _⟩ | ⟨c, h1, _⟩
      · exact (kv_room h1).1
      · exact (kv_room h1).1
    rw [kt_first d h ht hr1 h60' h61 c2 c1]
    rcases kxb_s hX with ⟨p, h1, rfl⟩ | ⟨c, h1, h2⟩
    · exact hl (n + 1) w _ _ (CR_kp h _ _ _ _) ht.2.2.1 kp_1 kp_2 h1
    · obtain ⟨s1, a1, b1, x1, e1, g1⟩ := hl (n + 1) w _ _ (CR_kp h _ _ _ _) ht.2.2.1 kp_1 kp_2 h1
      rw [a1]
      exact go c s1 b1 ((e1 60 n (Or.inl rfl) (by omega)).trans ((kp_4 (by omega)).trans h60')) ((e1 61 n (Or.inr rfl) (by omega)).trans (kp_3 (by omega))) x1 hr1 (fun f j hf hj => (e1 f j hf (by omega)).trans (kp_f f j hf hj)) (fun j hj => (g1 j hj).trans kp_6) h2
  by_cases c12 : k = 12
  · rw [if_pos c12] at hk
    refine first _ hk fun c s1 b1 e60 e61 e62 hr1 g6 g2 hX => ?_
    cases l with
    | leaf => exact nomatch hX
    | inner k2 i2 v2 l2 m =>
      dsimp only [nx_r] at hX hm hm2
      have fr : ∀ (y : Int32) f j, f = 60 ∨ f = 61 → j < n → mm_u (mm_u s1 60 n y) 61 n 0 f j = s f j := fun y f j hf hj => (mu_n (by omega)).trans ((mu_n (by omega)).trans (g6 f j hf hj))
      have fr2 : ∀ (y : Int32) j, j < w → mm_u (mm_u s1 60 n y) 61 n 0 62 j = s 62 j := fun y j hj => (mu_n (by omega)).trans ((mu_n (by omega)).trans (g2 j hj))
      have hml : c = 0 → m ≠ .leaf := by
        rintro rfl rfl
        rw [if_pos rfl] at hX
        exact nomatch hX
      rw [kt_cond d b1 ht hroom.1 hroom.2 e60 e61 e62 c12 hml]
      by_cases c0 : c = 0
      · rw [if_pos c0] at hX ⊢
        cases m with
        | leaf => exact nomatch hX
        | inner k3 i3 v3 l3 m3 =>
          dsimp only [nx_r] at hX hm2 ⊢
          exact KQ_fr (hm2 n w _ _ (CR_w (CR_w b1 _ (by omega)) _ (by omega)) ht.2.2.1.2.2.2.2.2.2 ((mu_n (by omega)).trans mu_s) mu_s hX) (fr _) (fr2 _)
      · rw [if_neg c0] at hX ⊢
        exact KQ_fr (hm n w _ _ (CR_w (CR_w b1 _ (by omega)) _ (by omega)) ht.2.2.1.2.2.2 ((mu_n (by omega)).trans mu_s) mu_s hX) (fr _) (fr2 _)
  rw [if_neg c12] at hk
  by_cases c10 : k = 10
  · rw [if_pos c10] at hk
    refine first _ hk fun c s1 b1 e60 e61 e62 hr1 g6 g2 hX => ?_
    rw [kt_un d b1 ht hroom.1 hroom.2 e60 e61 e62 c10]
    cases hX
    exact ⟨_, rfl, CR_w b1 _ (by omega), mu_s, fun f j hf hj => (mu_n (by omega)).trans (g6 f j hf hj), fun j hj => (mu_n (by omega)).trans (g2 j hj)⟩
  rw [if_neg c10] at hk
  by_cases c11 : k = 11
  · rw [if_pos c11] at hk
    refine first _ hk fun c s1 b1 e60 e61 e62 hr1 g6 g2 hX => ?_
    cases l with
    | leaf => exact nomatch hX
    | inner k2 i2 v2 l2 m =>
      dsimp only [nx_r] at hX hm hm2 hc
      subst c11
      rw [kt_rel1 d b1 ht hr1 e60 e61]
      have hlen : 1 + (rs_r m).length ≤ 26000 := by
        have := ht.2.1.2.2.2.2.2
        simp only [rs_r, List.length_cons] at this
        omega
      have := hc n w (kp_ s1 n 2 (n + 1) (rt_ m)) res i v (.inner k2 i2 v2 l2 m) r 1 c (CR_kp b1 _ _ _ _) ht rfl (by omega) hlen ((kp_4 (by omega)).trans e60) (kp_3 (by omega)) (kp_6.trans e62) kp_1 kp_2 hX
      exact KQ_fr this (fun f j hf hj => (kp_f f j hf hj).trans (g6 f j hf hj)) (fun j hj => kp_6.trans (g2 j hj))
  rw [if_neg c11] at hk
  refine first _ hk fun c s1 b1 e60 e61 e62 hr1 g6 g2 hX => ?_
  cases l with
  | leaf => exact nomatch hX
  | inner k2 i2 v2 l2 m =>
    dsimp only [nx_r] at hX hm hm2 hc
    rw [kt_bin1 d b1 ht hr1 e60 e61 c2 c1 c12 c10 c11]
    rcases kxb_s hX with ⟨p, h1, rfl⟩ | ⟨b, h1, h2⟩
    · exact hm (n + 1) (w + 1) _ _ (CR_kp b1 _ _ _ _) ht.2.2.1.2.2.2 kp_1 kp_2 h1
    · obtain ⟨s2, a2, b2, x2, y2, z2⟩ := hm (n + 1) (w + 1) _ _ (CR_kp b1 _ _ _ _) ht.2.2.1.2.2.2 kp_1 kp_2 h1
      have hroom2 := kv_room h1
      rw [a2]
      refine KQ_fr (kt_bin2 d b2 ht hroom.1 hroom2.2 ((y2 60 n (Or.inl rfl) (by omega)).trans ((kp_4 (by omega)).trans e60)) ((y2 61 n (Or.inr rfl) (by omega)).trans (kp_3 (by omega))) ((z2 w (by omega)).trans (kp_6.trans e62)) x2 c2 c1 c12 c10 c11 h2) (fun f j hf hj => (y2 f j hf (by omega)).trans ((kp_f f j hf hj).trans (g6 f j hf hj))) (fun j hj => (z2 j (by omega)).trans (kp_6.trans (g2 j hj)))
theorem m_kv (d : Nat) : ∀ (N : Nat) (t : tr_), (ix_ t).length ≤ N → PH z ts es sv q d t ∧ PC z ts es sv q d t
  | _, .leaf, _ => ⟨fun _ _ _ _ _ _ _ _ h => (nomatch h), fun _ _ _ _ _ _ _ _ _ _ _ _ _ _ _ _ _ _ _ _ h => (nomatch h)⟩
  | 0, .inner k i v l r, h => by simp [ix_] at h
  | N + 1, .inner k i v l r, h => by
    have nl : ∀ t : tr_, (ix_ (nx_r t)).length ≤ (ix_ t).length := fun t => by
      cases t with
      | leaf => exact Nat.le_refl _
      | inner k i v l r => simp [ix_, nx_r]; omega
    simp only [ix_, List.length_cons, List.length_append] at h
    have hl := m_kv d N l (by omega)
    have hm := m_kv d N (nx_r l) (by have := nl l; omega)
    have hm2 := m_kv d N (nx_r (nx_r l)) (by have := nl l; have := nl (nx_r l); omega)
    have hr := m_kv d N r (by omega)
    have hh := m_kv_H (k := k) (i := i) (v := v) (r := r) hl.1 hm.1 hm2.1 hm.2
    exact ⟨hh, m_chain hh hr.2⟩
theorem m_constant (d : Nat) {t : tr_} {s q' : mm_S} (h : CR z s (ts, es, sv, q)) (ht : Rc z t) (hk : cn_ z es t q = some q') : ∃ s', mE (d + 4) 59 [vr_ (some 0), vi_ (rt_ t)] s = some (none, s') ∧ CR z s' (ts, es, sv, q') := by
  unfold cn_ at hk
  cases h1 : kb1 z es t (true, q) with
  | none => rw [h1] at hk; exact nomatch hk
  | some y =>
    obtain ⟨g, q1⟩ := y
    rw [h1, Option.bind_some] at hk
    obtain ⟨s1, a1, b1⟩ := m_isK d h ht h1
    rw [me_constant, a1, bI_k]
    have bz : ∀ (g : Bool) (o : mm_O), mm_bz (zb_ g) o = o := fun g o => by cases g <;> rfl
    rw [bz]
    have b2 := CR_q (CR_q b1 (zb_ g) (f := 0) (i := 58) (by unfold kD; omega)) 0 (f := 0) (i := 59) (by unfold kD; omega)
    cases g with
    | false =>
      rw [if_pos (by rfl)]
      cases hk
      exact ⟨_, rfl, b2⟩
    | true =>
      rw [if_neg (by decide)]
      simp only [if_true] at hk
      rw [show mm_w 26000 60 0 (rt_ t) (mm_u (mm_u s1 0 58 (zb_ true)) 0 59 0) = some (mm_u (mm_u (mm_u s1 0 58 (zb_ true)) 0 59 0) 60 0 (rt_ t)) from mm_w_n (n := 0) (by decide) (by decide), Option.bind_some, show ∀ s, mm_w 26000 61 0 0 s = some (mm_u s 61 0 0) from fun s => mm_w_n (n := 0) (by decide) (by decide), Option.bind_some]
      cases hv : kv_ z es (mm_u (mm_u q1 0 58 1) 0 59 0) t 0 0 0 0 with
      | none => rw [hv] at hk; exact nomatch hk
      | some res =>
        rw [hv, Option.bind_some] at hk
        have := (m_kv (z := z) (ts := ts) (es := es) (sv := sv) (q := mm_u (mm_u q1 0 58 1) 0 59 0) (d + 1) _ t (Nat.le_refl _)).1 0 0 _ res (CR_w (CR_w b2 (rt_ t) (f := 60) (i := 0) (by omega)) 0 (f := 61) (i := 0) (by omega)) ht ((mu_n (by omega)).trans mu_s) mu_s hv
        cases res with
        | error p =>
          obtain ⟨s', a, b⟩ := this
          cases hk
          exact ⟨s', a, b⟩
        | ok x =>
          obtain ⟨s', a, b, c, _, _⟩ := this
          cases hk
          refine ⟨_, a.trans ?_, CR_q b x (f := 0) (i := 59) (by unfold kD; omega)⟩
          rw [mj_constant_40, if_neg (by decide), show mm_a 26000 62 0 s' = some (s' 62 0) from mm_a_n (n := 0) (by decide) (by decide), Option.bind_some, c]
end Kwhole
