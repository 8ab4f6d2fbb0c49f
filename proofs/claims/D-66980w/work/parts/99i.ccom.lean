/-! ===== commands, names, expressions of the checker ===== -/
section CRcom
variable {z s q : mm_S} {ts : List ctk} {es : List enT} {sv : List Int32} {r : Option ct_t}
theorem c_com_32 {d k0 i0 : Nat} {v0} {l0 n0 : tr_} (h0 : Rc z (.inner k0 i0 v0 l0 n0)) : ∀ (t : tr_) (j : Int32) (acc : List ctk) (s : mm_S), CR z s (acc ++ ts, es, sv, q) → Rc z t → (asg (q 29 i0) j t).length + (acc ++ ts).length ≤ 26000 → kq_ z (some (acc.reverse ++ asg (q 29 i0) j t ++ ts, es, sv, q)) (mJ (d + 2) 85 32 [vr_ (some 0), vi_ (nI i0), vi_ (nI ts.length), vi_ j, vi_ (rt_ t)] [] s)
  | .leaf, j, acc, s, h, _, _ => by
    rw [show rt_ (.leaf : tr_) = -1 from rfl, mj_commandOf_32, if_pos (by decide)]
    exact k_turn h rfl (fun s1 h1 => k_ok (by simpa [asg] using h1))
  | .inner k i v l nx, j, acc, s, h, ht, hl => by
    have hi := Rc_i ht
    have e : asg (q 29 i0) j (.inner k i v l nx) = (if j < q 29 i0 then 4 else 3, .inner k i v l nx, 0) :: asg (q 29 i0) (j + 1) nx := by simp [asg]
    rw [e] at hl ⊢
    simp only [List.length_cons] at hl
    rw [hi.1, mj_commandOf_32, if_neg hi.2.1, Rc_q h h0 (by omega) (by omega), Option.bind_some]
    by_cases c : j < q 29 i0
    · rw [if_pos c, if_pos c]
      refine k_task 4 (.inner k i v l nx) h (by omega) (nlo_ _) rfl (by omega) ht (fun s1 h1 => ?_)
      rw [Rc_n h1 ht, Option.bind_some]
      have := c_com_32 (d := d) h0 nx (j + 1) ((4, .inner k i v l nx, 0) :: acc) s1 h1 (Rc_r ht) (by simp only [List.cons_append, List.length_cons]; omega)
      simpa using this
    · rw [if_neg c, if_neg c]
      refine k_task 3 (.inner k i v l nx) h (by omega) (nlo_ _) rfl (by omega) ht (fun s1 h1 => ?_)
      rw [Rc_n h1 ht, Option.bind_some]
      have := c_com_32 (d := d) h0 nx (j + 1) ((3, .inner k i v l nx, 0) :: acc) s1 h1 (Rc_r ht) (by simp only [List.cons_append, List.length_cons]; omega)
      simpa using this
def bk_k (t : tr_) : List ctk := (fs_ t).map fun c => (if kd_ c = 41 then 13 else 1, c, 0)
theorem c_com_417 {d : Nat} : ∀ (t : tr_) (acc : List ctk) (s : mm_S), CR z s (acc ++ ts, es, sv, q) → Rc z t → (bk_k t).length + (acc ++ ts).length ≤ 26000 → kq_ z (some (acc.reverse ++ bk_k t ++ ts, es, sv, q)) (mJ (d + 2) 85 417 [vr_ (some 0), vi_ (nI ts.length), vi_ (rt_ t)] [] s)
  | .leaf, acc, s, h, _, _ => by
    rw [show rt_ (.leaf : tr_) = -1 from rfl, mj_commandOf_417, if_pos (by decide)]
    exact k_turn h rfl (fun s1 h1 => k_ok (by simpa [bk_k, fs_] using h1))
  | .inner k i v l nx, acc, s, h, ht, hl => by
    have hi := Rc_i ht
    have e : bk_k (.inner k i v l nx) = (if k = 41 then 13 else 1, .inner k i v l nx, 0) :: bk_k nx := rfl
    rw [e] at hl ⊢
    simp only [List.length_cons] at hl
    rw [hi.1, mj_commandOf_417, if_neg hi.2.1, Rc_k h ht, Option.bind_some]
    simp only [kk_ hi.2.2.1 41 (by decide)]
    by_cases c : k = 41
    · rw [if_pos c, if_pos c]
      refine k_task 13 (.inner k i v l nx) h (by omega) (nlo_ _) rfl (by omega) ht (fun s1 h1 => ?_)
      rw [Rc_n h1 ht, Option.bind_some]
      have := c_com_417 (d := d) nx ((13, .inner k i v l nx, 0) :: acc) s1 h1 (Rc_r ht) (by simp only [List.cons_append, List.length_cons]; omega)
      simpa using this
    · rw [if_neg c, if_neg c]
      refine k_task 1 (.inner k i v l nx) h (by omega) (nlo_ _) rfl (by omega) ht (fun s1 h1 => ?_)
      rw [Rc_n h1 ht, Option.bind_some]
      have := c_com_417 (d := d) nx ((1, .inner k i v l nx, 0) :: acc) s1 h1 (Rc_r ht) (by simp only [List.cons_append, List.length_cons]; omega)
      simpa using this
theorem k_nxo {l : tr_} {F : tr_ → Option ct_t} {K : Int32 → mm_O} (h : CR z s (ts, es, sv, q)) (hl : Rc z l) (hk : ∀ a, Rc z a → kq_ z (F a) (K (rt_ a))) : kq_ z ((nxo l).bind F) ((mm_a 26000 28 (rt_ l) s).bind K) := by
  cases l with
  | leaf => exact k_none
  | inner k i v l nx =>
    rw [(Rc_i hl).1, Rc_n h hl, Option.bind_some]
    exact hk nx (Rc_r hl)
theorem c_gt (d : Nat) {k i : Nat} {v} {l nx : tr_} (h : CR z s (ts, es, sv, q)) (ht : Rc z (.inner k i v l nx)) : kq_ z ((gt_k z i (nI v.1) es q).bind fun q1 => some (ts, es, sv, q1)) (mE (d + 2) 86 [vr_ (some 0), vi_ (nI i)] s) := by
  rw [me_goesTo, Rc_q h ht (by omega) (by omega), Option.bind_some, m_means h, bI_k]
  refine k_wn h ht (by omega) (by omega) (fun s1 h1 => ?_)
  unfold gt_k
  cases hm : mn_k (q 29 i) es with
  | none =>
    dsimp only
    rw [if_pos (by decide)]
    exact k_ftt h1 ht (fun s2 q2 h2 => k_ok h2)
  | some je =>
    obtain ⟨j, e⟩ := je
    dsimp only
    obtain ⟨hj, _, a2, a3, a4, a5, _⟩ := KE_mn h1.2.2.2.2.1 hm
    have hl := h.2.2.2.2.2.2.2.1
    rw [if_neg (show ¬ nI j < 0 by rw [nlt1_ 0 (by omega) (by decide)]; omega), mm_a_n (n := j) (by omega) (by decide), Option.bind_some, a2, mm_a_n (n := j) (by omega) (by decide), Option.bind_some, a4, mm_a_n (n := j) (by omega) (by decide), Option.bind_some, a5, mm_a_n (n := j) (by omega) (by decide), Option.bind_some, a3, CR_0 h1 (i := 73) (by unfold kD; omega), CR_0 h1 (i := 77) (by unfold kD; omega), Option.bind_assoc]
    have e73 : mm_u q 31 i (-1) 0 73 = q 0 73 := mu_n (by omega)
    have e77 : mm_u q 31 i (-1) 0 77 = q 0 77 := mu_n (by omega)
    rw [e73, e77]
    have fin : ¬ (e.2.1 = 5 ∧ e.2.2.2.1 = q 0 73 ∧ e.2.2.2.2.1 = q 0 77) → kq_ z ((if e.2.1 = 5 ∧ e.2.2.2.1 = q 0 73 ∧ e.2.2.2.2.1 = q 0 77 then some (mm_u q 31 i (-1)) else ft_ z 6 (nI v.1) (mm_u q 31 i (-1))).bind fun x => (some (mm_u x 31 i e.2.2.1)).bind fun q1 => some (ts, es, sv, q1)) (mJ (d + 2) 86 74 [vr_ (some 0), vi_ (nI i), vi_ (nI j)] [] s1) := by
      intro hc
      rw [if_neg hc, mj_goesTo_74]
      refine k_ftt h1 ht (fun s2 q2 h2 => ?_)
      obtain ⟨hj2, _, _, b3, _⟩ := KE_mn h2.2.2.2.2.1 hm
      rw [mm_a_n (n := j) (by omega) (by decide), Option.bind_some, b3, Option.bind_some]
      exact k_wn h2 ht (by omega) (by omega) (fun s3 h3 => k_ok h3)
    by_cases c1 : e.2.1 = 5
    · rw [if_pos c1]
      by_cases c2 : e.2.2.2.1 = q 0 73
      · rw [if_pos c2]
        by_cases c3 : e.2.2.2.2.1 = q 0 77
        · rw [if_pos c3, if_pos ⟨c1, c2, c3⟩, Option.bind_some, Option.bind_some]
          exact k_wn h1 ht (by omega) (by omega) (fun s3 h3 => k_ok h3)
        · rw [if_neg c3]; exact fin (fun e => c3 e.2.2)
      · rw [if_neg c2]; exact fin (fun e => c2 e.2.1)
    · rw [if_neg c1]; exact fin (fun e => c1 e.1)
def nv_k (x : Option (Nat × enT)) : Int32 := match x with
  | none => -1
  | some (j, _) => nI j
theorem k_named {d k i : Nat} {v} {l nx : tr_} {F : Option (Nat × enT) × mm_S → Option ct_t} {K : Int32 → mm_S → mm_O} (h : CR z s (ts, es, sv, q)) (ht : Rc z (.inner k i v l nx)) (hF : ∀ s1 y, CR z s1 (ts, es, sv, y.2) → y.1 = mn_k (q 29 i) es → kq_ z (F y) (K (nv_k y.1) s1)) : kq_ z ((naK z i (nI v.1) es q).bind F) (mm_bI (mE (d + 2) 87 [vr_ (some 0), vi_ (nI i)] s) K) := by
  have bb : ∀ (o : mm_O) (f : Int32 → mm_S → mm_O) , mm_bI (mm_bI o f) K = mm_bI o fun v s => mm_bI (f v s) K := fun o f => by
    cases o with
    | none => rfl
    | some x =>
      obtain ⟨a, b⟩ := x
      match a with
      | none => rfl
      | some (.inl v) => rfl
      | some (.inr v) => rfl
  have bv : ∀ (o : mm_O) (f : mm_S → mm_O) , mm_bI (mm_bV o f) K = mm_bV o fun s => mm_bI (f s) K := fun o f => by
    cases o with
    | none => rfl
    | some x =>
      obtain ⟨a, b⟩ := x
      cases a <;> rfl
  rw [me_named, Rc_q h ht (by omega) (by omega), Option.bind_some, m_means h, bI_k]
  unfold naK
  cases hm : mn_k (q 29 i) es with
  | none =>
    dsimp only
    rw [if_pos (by decide), Option.bind_assoc]
    simp only [bi_as, bb, bv]
    refine k_ftt h ht (fun s2 q2 h2 => ?_)
    rw [Option.bind_some]
    exact k_wn h2 ht (by omega) (by omega) (fun s3 h3 => hF s3 (none, _) h3 hm.symm)
  | some je =>
    obtain ⟨j, e⟩ := je
    dsimp only
    obtain ⟨hj, _, a2, a3, a4, a5, _⟩ := KE_mn h.2.2.2.2.1 hm
    have hl := h.2.2.2.2.2.2.2.1
    rw [if_neg (show ¬ nI j < 0 by rw [nlt1_ 0 (by omega) (by decide)]; omega), mm_a_n (n := j) (by omega) (by decide), Option.bind_some, a2, bi_as]
    refine k_wn h ht (by omega) (by omega) (fun s1 h1 => ?_)
    obtain ⟨_, _, b2, b3, b4, b5, _⟩ := KE_mn h1.2.2.2.2.1 hm
    rw [mm_a_n (n := j) (by omega) (by decide), Option.bind_some, b3, bi_as]
    refine k_wn h1 ht (by omega) (by omega) (fun s2 h2 => ?_)
    obtain ⟨_, _, c2, c3, c4, c5, _⟩ := KE_mn h2.2.2.2.2.1 hm
    rw [mm_a_n (n := j) (by omega) (by decide), Option.bind_some, c2, mm_a_n (n := j) (by omega) (by decide), Option.bind_some, c4, CR_0 h2 (i := 73) (by unfold kD; omega), Option.bind_assoc]
    have e73 : ∀ x y : Int32, mm_u (mm_u q 30 i x) 31 i y 0 73 = q 0 73 := fun x y => (mu_n (by omega)).trans (mu_n (by omega))
    rw [e73]
    have fin : ∀ s3 q3, CR z s3 (ts, es, sv, q3) → kq_ z (((if e.2.1 = 5 then ft_ z 6 (nI v.1) q3 else some q3).bind fun q2 => some (some (j, e), q2)).bind F) (mm_bI (mJ (d + 2) 87 101 [vr_ (some 0), vi_ (nI i), vi_ (nI j)] [] s3) K) := by
      intro s3 q3 h3
      obtain ⟨_, _, f2, _⟩ := KE_mn h3.2.2.2.2.1 hm
      rw [mj_named_101, mm_a_n (n := j) (by omega) (by decide), Option.bind_some, f2, Option.bind_assoc]
      by_cases c5 : e.2.1 = 5
      · rw [if_pos c5, if_pos c5]
        simp only [bi_as, bb, bv]
        exact k_ftt h3 ht (fun s4 q4 h4 => hF s4 (some (j, e), q4) h4 hm.symm)
      · rw [if_neg c5, if_neg c5]
        exact hF s3 (some (j, e), q3) h3 hm.symm
    by_cases d4 : e.2.1 = 4
    · rw [if_pos d4]
      by_cases d5 : e.2.2.2.1 = q 0 73
      · rw [if_pos d5, if_neg (fun x => x.2 d5), Option.bind_some]
        exact fin _ _ h2
      · rw [if_neg d5, if_pos ⟨d4, d5⟩]
        simp only [bi_as, bb, bv]
        exact k_ftt h2 ht (fun s3 q3 h3 => fin _ _ h3)
    · rw [if_neg d4, if_neg (fun x => d4 x.1), Option.bind_some]
      exact fin _ _ h2
theorem c_pc_50 {d k i : Nat} {v} {l nx : tr_} {fine : Bool} (h : CR z s (ts, es, sv, q)) (ht : Rc z (.inner k i v l nx)) (hk : k ≠ 1) : kq_ z ((if fine = true then some q else ff_ z (.inner k i v l nx) q).bind fun q1 => tks [(3, .inner k i v l nx, 0)] ts es sv q1) (mJ (d + 2) 88 50 [vr_ (some 0), vi_ (nI i), vi_ (nI k)] [vi_ (zb_ fine)] s) := by
  have hi := Rc_i ht
  rw [mj_placeOf_50]
  simp only [kk_ hi.2.2.1 1 (by decide)]
  rw [if_neg hk]
  have fin : ∀ s1 q1, CR z s1 (ts, es, sv, q1) → kq_ z (tks [(3, .inner k i v l nx, 0)] ts es sv q1) (mm_bV (mE (d + 1) 61 [vr_ (some 0), vi_ 3, vi_ (nI i), vi_ 0] s1) fun s22 => some (none, s22)) := by
    intro s1 q1 h1
    refine k_tks (fun hl => ?_)
    simp only [List.length_cons, List.length_nil] at hl
    exact k_task 3 (.inner k i v l nx) h1 (by omega) (nlo_ _) rfl (by decide) ht (fun s2 h2 => k_ok h2)
  cases fine with
  | true =>
    rw [if_neg (show ¬ zb_ true = 0 by decide), if_pos rfl, Option.bind_some]
    exact fin _ _ h
  | false =>
    rw [if_pos (show zb_ false = 0 from rfl), if_neg (by decide)]
    exact k_ff h ht fin
theorem c_pc (d : Nat) (left : Bool) (t : tr_) (h : CR z s (ts, es, sv, q)) (ht : Rc z t) : kq_ z (pc_ z left t ts es sv q) (mE (d + 3) 88 [vr_ (some 0), vi_ (rt_ t), vi_ (zb_ left)] s) := by
  cases t with
  | leaf => exact k_none
  | inner k i v l nx =>
    have hi := Rc_i ht
    rw [hi.1, me_placeOf, Rc_k h ht, Option.bind_some, Rc_q h ht (by omega) (by omega), Option.bind_some, Option.bind_some]
    simp only [kk_ hi.2.2.1 7 (by decide), kk_ hi.2.2.1 9 (by decide)]
    unfold pc_
    dsimp only
    by_cases c1 : k = 1
    · rw [if_pos c1, if_neg (show ¬ k = 7 by omega), if_neg (show ¬ k = 9 by omega), mj_placeOf_50]
      simp only [kk_ hi.2.2.1 1 (by decide)]
      rw [if_pos c1]
      refine k_named h ht (fun s1 y h1 hy => ?_)
      obtain ⟨y1, q1⟩ := y
      cases y1 with
      | none =>
        rw [if_pos (show nv_k (none, q1).1 < 0 from (by decide : (-1 : Int32) < 0)), Option.bind_some]
        exact k_ok h1
      | some je =>
        obtain ⟨j, e⟩ := je
        obtain ⟨hj, _, a2, a3, a4, a5, _⟩ := KE_mn h1.2.2.2.2.1 hy.symm
        have hl := h.2.2.2.2.2.2.2.1
        rw [if_neg (show ¬ nv_k (some (j, e), q1).1 < 0 from (by rw [nlt1_ 0 (by omega) (by decide)]; omega : ¬ nI j < 0)), show nv_k (some (j, e), q1).1 = nI j from rfl, mm_a_n (n := j) (by omega) (by decide), Option.bind_some, Option.bind_some, Option.bind_some, a2]
        have go := k_ff (d := d + 1) (K := fun s7 => some (none, s7)) (F := fun q1 => some (ts, es, sv, q1)) h1 ht (fun s2 q2 h2 => k_ok h2)
        dsimp only at go ⊢
        by_cases d1 : e.2.1 = 2
        · rw [if_pos d1, if_pos (Or.inl d1)]; exact go
        rw [if_neg d1]
        by_cases d2 : e.2.1 = 6
        · rw [if_pos d2, if_pos (Or.inr (Or.inl d2))]; exact go
        rw [if_neg d2]
        by_cases d3 : e.2.1 = 5
        · rw [if_pos d3, if_pos (Or.inr (Or.inr d3))]; exact go
        rw [if_neg d3, if_neg (show ¬ (e.2.1 = 2 ∨ e.2.1 = 6 ∨ e.2.1 = 5) by rintro (x | x | x) <;> contradiction), Option.bind_some]
        exact k_ok h1
    · rw [if_neg c1]
      have go : ∀ fine : Bool, ((k = 7 ∨ (k = 9 ∧ (q 29 i = 18 ∨ (left = true ∧ q 29 i = 19)))) ↔ fine = true) → kq_ z ((if k = 7 ∨ (k = 9 ∧ (q 29 i = 18 ∨ (left = true ∧ q 29 i = 19))) then some q else ff_ z (.inner k i v l nx) q).bind fun q1 => tks [(3, .inner k i v l nx, 0)] ts es sv q1) (mJ (d + 3) 88 50 [vr_ (some 0), vi_ (nI i), vi_ (nI k)] [vi_ (zb_ fine)] s) := by
        intro fine hf
        simp only [hf]
        exact c_pc_50 (d := d + 1) h ht c1
      by_cases c7 : k = 7
      · rw [if_pos c7]; exact go true (by simp [c7])
      rw [if_neg c7]
      by_cases c9 : k = 9
      · rw [if_pos c9]
        by_cases c18 : q 29 i = 18
        · rw [if_pos c18]; exact go true (by simp [c9, c18])
        rw [if_neg c18]
        cases left with
        | false => rw [if_pos (show zb_ false = 0 from rfl)]; exact go false (by simp [c7, c18])
        | true =>
          rw [if_neg (show ¬ zb_ true = 0 by decide)]
          by_cases c19 : q 29 i = 19
          · rw [if_pos c19]; exact go true (by simp [c9, c19])
          · rw [if_neg c19]; exact go false (by simp [c7, c18, c19])
      · rw [if_neg c9]; exact go false (by simp [c7, c9])
theorem k_ob2 {α : Type} {x : Option α} {F : α → Option ct_t} {K : α → mm_O} (hk : ∀ v, kq_ z (F v) (K v)) : kq_ z (x.bind F) (x.bind K) := by
  cases x with
  | none => exact k_none
  | some v => exact hk v
/-! expressions -/
theorem c_tb_56 {d : Nat} : ∀ (t : tr_) (q s : mm_S), CR z s (ts, es, sv, q) → Rc z t → kq_ z ((tb_ z es t q).bind fun q1 => some (ts, es, sv, q1)) (mJ (d + 5) 89 56 [vr_ (some 0), vi_ (rt_ t)] [] s)
  | .leaf, q, s, h, _ => by
    rw [show rt_ (.leaf : tr_) = -1 from rfl, mj_expressionOf_56, if_pos (by decide)]
    exact k_ok h
  | .inner k i v l nx, q, s, h, ht => by
    have hi := Rc_i ht
    rw [hi.1, mj_expressionOf_56, if_neg hi.2.1]
    unfold tb_
    rw [Option.bind_assoc]
    refine k_const h ht (fun s1 q1 h1 => ?_)
    rw [CR_0 h1 (i := 81) (by unfold kD; omega), CR_0 h1 (i := 59) (by unfold kD; omega), Option.bind_assoc]
    refine k_init h1 (fun s2 q2 h2 => ?_)
    rw [CR_0 h2 (i := 81) (by unfold kD; omega)]
    have h3 := CR_q h2 (f := 0) (i := 81) (q2 0 81 + 1) (by unfold kD; omega)
    rw [Rc_n h3 ht, Option.bind_some]
    exact c_tb_56 nx _ _ h3 (Rc_r ht)
theorem c_str_41 {d : Nat} {x m k v b : Int32} (h : CR z s (ts, es, sv, q)) (hb : ¬ b < 0) : mJ (d + 2) 90 41 [vr_ (some 0), vi_ x, vi_ m, vi_ k, vi_ v, vi_ b] [] s = (sb_k z x m (k + b)).bind fun y => mJ (d + 2) 90 41 [vr_ (some 0), vi_ x, vi_ m, vi_ k, vi_ ((v <<< (8 &&& 31)) ||| y), vi_ (b + (-1))] [] s := by
  rw [mj_string_41, if_neg hb, mm_a_cz h (f := 17) (by intro i; unfold kS kD; omega), mm_a_cz h (f := 16) (by intro i; unfold kS kD; omega)]
  unfold sb_k
  by_cases c : k + b = 0
  · rw [if_pos c, if_pos c]
  · rw [if_neg c, if_neg c]
    by_cases c2 : k + b < m
    · rw [if_pos c2, if_pos c2, Option.bind_assoc]
      congr 1
      funext a
      rw [mm_a_cz h (f := 14) (by intro i; unfold kS kD; omega), Option.bind_assoc]
      rfl
    · rw [if_neg c2, if_neg c2]
      rfl
theorem c_str_29 {d : Nat} {x m : Int32} : ∀ (f : Nat) (k : Int32) (q s : mm_S), CR z s (ts, es, sv, q) → kq_ z ((sl_k z x m f k q).bind fun q1 => some (ts, es, sv, q1)) (mJ (d + 2) 90 29 [vr_ (some 0), vi_ x, vi_ m, vi_ k] [] s)
  | 0, k, q, s, h => by
    have e : sl_k z x m 0 k q = none := by unfold sl_k; rfl
    rw [e]
    exact k_none
  | f + 1, k, q, s, h => by
    rw [mj_string_29]
    unfold sl_k
    by_cases c : k < m
    · rw [if_pos c, if_pos c, c_str_41 h (by decide), Option.bind_assoc]
      unfold sw_k
      rw [Option.bind_assoc]
      refine k_ob2 (fun a => ?_)
      rw [show ((3 : Int32) + -1) = 2 from rfl, c_str_41 h (by decide), Option.bind_assoc]
      refine k_ob2 (fun b => ?_)
      rw [show ((2 : Int32) + -1) = 1 from rfl, c_str_41 h (by decide), Option.bind_assoc]
      refine k_ob2 (fun c => ?_)
      rw [show ((1 : Int32) + -1) = 0 from rfl, c_str_41 h (by decide), Option.bind_assoc]
      refine k_ob2 (fun e => ?_)
      rw [show ((0 : Int32) + -1) = -1 from rfl, mj_string_41, if_pos (by decide), Option.bind_some, CR_0 h (i := 81) (by unfold kD; omega), Option.bind_assoc]
      refine k_init h (fun s2 q2 h2 => ?_)
      rw [CR_0 h2 (i := 81) (by unfold kD; omega)]
      exact c_str_29 f (k + 4) _ _ (CR_q h2 (f := 0) (i := 81) (q2 0 81 + 1) (by unfold kD; omega))
    · rw [if_neg c, if_neg c]
      exact k_ok h
theorem c_ex (d : Nat) (t : tr_) (h : CR z s (ts, es, sv, q)) (ht : Rc z t) : kq_ z (ex_ z t ts es sv q) (mE (d + 5) 89 [vr_ (some 0), vi_ (rt_ t)] s) := by
  cases t with
  | leaf => exact k_none
  | inner k i v l nx =>
    have hi := Rc_i ht
    rw [hi.1, me_expressionOf, Rc_k h ht, Option.bind_some]
    simp only [kk_ hi.2.2.1 1 (by decide), kk_ hi.2.2.1 3 (by decide), kk_ hi.2.2.1 5 (by decide), kk_ hi.2.2.1 4 (by decide), kk_ hi.2.2.1 8 (by decide), kk_ hi.2.2.1 6 (by decide)]
    unfold ex_
    dsimp only
    refine k_ite (fun c => ?_) (fun c1 => ?_)
    · exact k_named h ht (fun s1 y h1 _ => k_ok h1)
    refine k_ite (fun c => ?_) (fun c3 => ?_)
    · refine k_ret ?_
      rw [me_string, Rc_q h ht (by omega) (by omega), Option.bind_some, CR_0 h (i := 81) (by unfold kD; omega)]
      cases hm : mm_a 3100 17 (q 29 i) z with
      | none => exact k_none
      | some m =>
        rw [Option.bind_some]
        refine k_wn h ht (by omega) (by omega) (fun s1 h1 => ?_)
        rw [mm_a_cz h1 (f := 17) (by intro i; unfold kS kD; omega), hm, Option.bind_some]
        exact c_str_29 (d := d + 2) 2000 0 _ _ h1
    refine k_ite (fun c => ?_) (fun c5 => ?_)
    · rw [CR_0 h (i := 81) (by unfold kD; omega)]
      refine k_wn h ht (by omega) (by omega) (fun s1 h1 => ?_)
      rw [Rc_c h1 ht, Option.bind_some]
      exact c_tb_56 l _ _ h1 (Rc_l ht)
    refine k_ite (fun c => ?_) (fun c4 => ?_)
    · refine k_pus (fun hl => ?_)
      simp only [List.length_cons, List.length_nil] at hl
      refine k_tks (fun hl2 => ?_)
      simp only [List.length_cons, List.length_nil] at hl2
      rw [CR_0 h (i := 77) (by unfold kD; omega)]
      refine k_put h (by omega) (fun s2 h2 => ?_)
      rw [CR_0 h2 (i := 79) (by unfold kD; omega)]
      refine k_put h2 (by simp only [List.length_cons]; omega) (fun s3 h3 => ?_)
      rw [CR_0 h3 (i := 80) (by unfold kD; omega)]
      refine k_put h3 (by simp only [List.length_cons]; omega) (fun s4 h4 => ?_)
      rw [CR_0 h4 (i := 78) (by unfold kD; omega)]
      have h5 := CR_q (CR_q (CR_q (CR_q h4 (f := 0) (i := 78) (q 0 78 + 1) (by unfold kD; omega)) (f := 0) (i := 77) (q 0 78 + 1) (by unfold kD; omega)) (f := 0) (i := 79) 0 (by unfold kD; omega)) (f := 0) (i := 80) 0 (by unfold kD; omega)
      refine k_task 14 (.inner k i v l nx) h5 (by omega) (nlo_ _) rfl (by decide) ht (fun s6 h6 => ?_)
      rw [Rc_c h6 ht, Option.bind_some]
      exact k_task 2 l h6 (by simp only [List.length_cons]; omega) (nlo_ _) rfl (by decide) (Rc_l ht) (fun s7 h7 => k_ok h7)
    refine k_ite (fun c => ?_) (fun c8 => ?_)
    · refine k_tks (fun hl2 => ?_)
      simp only [List.length_cons, List.length_nil] at hl2
      rw [Rc_c h ht, Option.bind_some]
      exact k_task 5 l h (by omega) (nlo_ _) rfl (by decide) (Rc_l ht) (fun s7 h7 => k_ok h7)
    refine k_ite (fun c => ?_) (fun c6 => ?_)
    · refine k_tks (fun hl2 => ?_)
      rw [CR_0 h (i := 74) (by unfold kD; omega)]
      refine k_wn h ht (by omega) (by omega) (fun s1 h1 => ?_)
      exact k_children (g := 3) (by omega) h1 ht hl2 (fun s2 h2 => k_ok h2)
    · refine k_tks (fun hl2 => ?_)
      exact k_children (g := 3) (by omega) h ht hl2 (fun s2 h2 => k_ok h2)
/-! commands -/
theorem c_co (d : Nat) (t : tr_) (h : CR z s (ts, es, sv, q)) (ht : Rc z t) : kq_ z (co_ z t ts es sv q) (mE (d + 5) 85 [vr_ (some 0), vi_ (rt_ t)] s) := by
  cases t with
  | leaf => exact k_none
  | inner k i v l nx =>
    have hi := Rc_i ht
    have hl := Rc_l ht
    rw [hi.1, me_commandOf, Rc_k h ht, Option.bind_some, Rc_c h ht, Option.bind_some]
    simp only [kk_ hi.2.2.1 20 (by decide), kk_ hi.2.2.1 21 (by decide), kk_ hi.2.2.1 22 (by decide), kk_ hi.2.2.1 23 (by decide), kk_ hi.2.2.1 24 (by decide), kk_ hi.2.2.1 25 (by decide), kk_ hi.2.2.1 26 (by decide), kk_ hi.2.2.1 38 (by decide), kk_ hi.2.2.1 39 (by decide), kk_ hi.2.2.1 40 (by decide), kk_ hi.2.2.1 27 (by decide), kk_ hi.2.2.1 28 (by decide), kk_ hi.2.2.1 36 (by decide), kk_ hi.2.2.1 33 (by decide), kk_ hi.2.2.1 35 (by decide), kk_ hi.2.2.1 29 (by decide), kk_ hi.2.2.1 30 (by decide)]
    unfold co_
    dsimp only
    refine k_ite (fun c => ?_) (fun c20 => ?_)
    · rw [h.2.2.1.1]
      refine k_tks (fun hlen => ?_)
      exact c_com_32 (d := d + 3) ht l 0 [] s h hl hlen
    refine k_ite (fun c => ?_) (fun c21 => ?_)
    · refine k_tks (fun hlen => ?_)
      simp only [List.length_cons, List.length_nil] at hlen
      exact k_task 3 l h (by omega) (nlo_ _) rfl (by decide) hl (fun s1 h1 => k_ok h1)
    have g112 : kq_ z ((nxo l).bind fun a => tks [(3, l, 0), (2, a, 0)] ts es sv q) (mJ (d + 5) 85 112 [vr_ (some 0), vi_ (rt_ l)] [] s) := by
      rw [mj_commandOf_112]
      refine k_nxo h hl (fun a ha => ?_)
      refine k_tks (fun hlen => ?_)
      simp only [List.length_cons, List.length_nil] at hlen
      refine k_task 2 a h (by omega) (nlo_ _) rfl (by decide) ha (fun s1 h1 => ?_)
      exact k_task 3 l h1 (by simp only [List.length_cons]; omega) (nlo_ _) rfl (by decide) hl (fun s2 h2 => k_ok h2)
    by_cases c22 : k = 22
    · rw [if_pos c22, if_pos (Or.inl c22)]; exact g112
    rw [if_neg c22]
    by_cases c23 : k = 23
    · rw [if_pos c23, if_pos (Or.inr c23)]; exact g112
    rw [if_neg c23, if_neg (show ¬ (k = 22 ∨ k = 23) by omega)]
    refine k_ite (fun c => ?_) (fun c24 => ?_)
    · clear ht g112
      match l, hl with
      | .leaf, _ => exact k_none
      | .inner _ _ _ _ .leaf, _ => exact k_none
      | .inner ka ia va la (.inner kb ib vb lb nb), hl =>
        have ha := Rc_r hl
        dsimp only [nxo]
        rw [Option.bind_some, Option.bind_some, (Rc_i hl).1, Rc_n h hl, Option.bind_some, (Rc_i ha).1, Rc_n h ha, Option.bind_some]
        refine k_tks (fun hlen => ?_)
        simp only [List.length_cons, List.length_nil] at hlen
        refine k_task 2 nb h (by omega) (nlo_ _) rfl (by decide) (Rc_r ha) (fun s1 h1 => ?_)
        rw [Rc_n h1 hl, Option.bind_some]
        refine k_task 2 (.inner kb ib vb lb nb) h1 (by simp only [List.length_cons]; omega) (nlo_ _) rfl (by decide) ha (fun s2 h2 => ?_)
        exact k_task 3 (.inner ka ia va la (.inner kb ib vb lb nb)) h2 (by simp only [List.length_cons]; omega) (nlo_ _) rfl (by decide) hl (fun s3 h3 => k_ok h3)
    have g191 : kq_ z ((nxo l).bind fun a => tks [(3, l, 0), (10, .leaf, 1), (2, a, 0), (10, .leaf, -1)] ts es sv q) (mJ (d + 5) 85 191 [vr_ (some 0), vi_ (rt_ l)] [] s) := by
      rw [mj_commandOf_191]
      clear ht g112
      match l, hl with
      | .leaf, _ => exact k_none
      | .inner ka ia va la a, hl =>
        dsimp only [nxo]
        rw [Option.bind_some, (Rc_i hl).1]
        refine k_tks (fun hlen => ?_)
        simp only [List.length_cons, List.length_nil] at hlen
        refine k_task 10 .leaf h (by omega) (nlo_ _) rfl (by decide) trivial (fun s1 h1 => ?_)
        rw [Rc_n h1 hl, Option.bind_some]
        refine k_task 2 a h1 (by simp only [List.length_cons]; omega) (nlo_ _) rfl (by decide) (Rc_r hl) (fun s2 h2 => ?_)
        refine k_task 10 .leaf h2 (by simp only [List.length_cons]; omega) (nlo_ _) rfl (by decide) trivial (fun s3 h3 => ?_)
        exact k_task 3 (.inner ka ia va la a) h3 (by simp only [List.length_cons]; omega) (nlo_ _) rfl (by decide) hl (fun s4 h4 => k_ok h4)
    by_cases c25 : k = 25
    · rw [if_pos c25, if_pos (Or.inl c25)]; exact g191
    rw [if_neg c25]
    by_cases c26 : k = 26
    · rw [if_pos c26, if_pos (Or.inr c26)]; exact g191
    rw [if_neg c26, if_neg (show ¬ (k = 25 ∨ k = 26) by omega)]
    have D79 : kD 0 79 := by unfold kD; omega
    refine k_ite (fun c => ?_) (fun c38 => ?_)
    · refine k_tks (fun hlen => ?_)
      simp only [List.length_cons, List.length_nil] at hlen
      refine k_task 10 .leaf h (by omega) (nlo_ _) rfl (by decide) trivial (fun s1 h1 => ?_)
      refine k_task 2 l h1 (by simp only [List.length_cons]; omega) (nlo_ _) rfl (by decide) hl (fun s2 h2 => ?_)
      rw [CR_0 h2 D79]
      exact k_ok (CR_q h2 _ D79)
    have g275 : kq_ z ((nxo l).bind fun a => tks [(2, l, 0), (10, .leaf, -1), (3, a, 0)] ts es sv (mm_u q 0 79 (q 0 79 + 1))) (mJ (d + 5) 85 275 [vr_ (some 0), vi_ (rt_ l)] [] s) := by
      rw [mj_commandOf_275]
      refine k_nxo h hl (fun a ha => ?_)
      refine k_tks (fun hlen => ?_)
      simp only [List.length_cons, List.length_nil] at hlen
      refine k_task 3 a h (by omega) (nlo_ _) rfl (by decide) ha (fun s1 h1 => ?_)
      refine k_task 10 .leaf h1 (by simp only [List.length_cons]; omega) (nlo_ _) rfl (by decide) trivial (fun s2 h2 => ?_)
      refine k_task 2 l h2 (by simp only [List.length_cons]; omega) (nlo_ _) rfl (by decide) hl (fun s3 h3 => ?_)
      rw [CR_0 h3 D79]
      exact k_ok (CR_q h3 _ D79)
    by_cases c39 : k = 39
    · rw [if_pos c39, if_pos (Or.inl c39)]; exact g275
    rw [if_neg c39]
    by_cases c40 : k = 40
    · rw [if_pos c40, if_pos (Or.inr c40)]; exact g275
    rw [if_neg c40, if_neg (show ¬ (k = 39 ∨ k = 40) by omega)]
    refine k_ite (fun c => ?_) (fun c27 => ?_)
    · clear g112 g191 g275
      match l, hl, ht with
      | .leaf, _, _ => exact k_none
      | .inner _ _ _ _ .leaf, _, _ => exact k_none
      | .inner ka ia va la (.inner kb ib vb lb nb), hl, ht =>
        have ha := Rc_r hl
        dsimp only [nxo]
        rw [Option.bind_some, Option.bind_some, (Rc_i hl).1]
        refine k_tks (fun hlen => ?_)
        simp only [List.length_cons, List.length_nil] at hlen
        refine k_task 11 (.inner k i v (.inner ka ia va la (.inner kb ib vb lb nb)) nx) h (by omega) (nlo_ _) rfl (by decide) ht (fun s1 h1 => ?_)
        rw [Rc_n h1 hl, Option.bind_some, (Rc_i ha).1, Rc_n h1 ha, Option.bind_some]
        refine k_task 3 nb h1 (by simp only [List.length_cons]; omega) (nlo_ _) rfl (by decide) (Rc_r ha) (fun s2 h2 => ?_)
        rw [Rc_n h2 hl, Option.bind_some]
        exact k_task 3 (.inner kb ib vb lb nb) h2 (by simp only [List.length_cons]; omega) (nlo_ _) rfl (by decide) ha (fun s3 h3 => k_ok h3)
    refine k_ite (fun c => ?_) (fun c28 => ?_)
    · refine k_tks (fun hlen => ?_)
      simp only [List.length_cons, List.length_nil] at hlen
      refine k_task 12 (.inner k i v l nx) h (by omega) (nlo_ _) rfl (by decide) ht (fun s1 h1 => ?_)
      exact k_task 3 l h1 (by simp only [List.length_cons]; omega) (nlo_ _) rfl (by decide) hl (fun s2 h2 => k_ok h2)
    refine k_ite (fun c => ?_) (fun c36 => ?_)
    · refine k_begin h (fun s1 sv1 h1 => ?_)
      refine k_labels h1 ht (fun s2 y h2 => ?_)
      refine k_tks (fun hlen => ?_)
      refine k_task 9 .leaf h2 (by simp only [List.length_cons] at hlen; omega) (nlo_ _) rfl (by decide) trivial (fun s3 h3 => ?_)
      rw [h3.2.2.1.1]
      exact c_com_417 (ts := (9, .leaf, 0) :: ts) (d := d + 3) l [] s3 h3 hl hlen
    have fin : ∀ s1 q1, CR z s1 (ts, es, sv, q1) → kq_ z (tks [(3, l, 0)] ts es sv q1) (mm_bV (mE (d + 4) 61 [vr_ (some 0), vi_ 3, vi_ (rt_ l), vi_ 0] s1) fun s22 => some (none, s22)) := by
      intro s1 q1 h1
      refine k_tks (fun hlen => ?_)
      simp only [List.length_cons, List.length_nil] at hlen
      exact k_task 3 l h1 (by omega) (nlo_ _) rfl (by decide) hl (fun s2 h2 => k_ok h2)
    refine k_ite (fun c => ?_) (fun c33 => ?_)
    · rw [CR_0 h (i := 77) (by unfold kD; omega)]
      by_cases c77 : q 0 77 = 0
      · rw [if_pos c77, if_pos c77]
        exact k_ftt h ht (fun s2 q2 h2 => fin s2 q2 h2)
      · rw [if_neg c77, if_neg c77, Option.bind_some]
        exact fin s q h
    refine k_ite (fun c => ?_) (fun c35 => ?_)
    · exact k_ret (c_gt (d + 2) h ht)
    have flt : (((k = 29 ∨ k = 30) ∧ q 0 79 = 0) ∨ (k = 31 ∧ q 0 80 = 0) ∨ (k = 32 ∧ q 0 76 ≠ 0)) → kq_ z (if ((k = 29 ∨ k = 30) ∧ q 0 79 = 0) ∨ (k = 31 ∧ q 0 80 = 0) ∨ (k = 32 ∧ q 0 76 ≠ 0) then (ft_ z 6 (nI v.1) q).bind fun q1 => some (ts, es, sv, q1) else some (ts, es, sv, q)) ((mm_a 26000 26 (nI i) s).bind fun v30 => mm_bI (mE (d + 4) 46 [vr_ (some 0), vi_ v30] s) fun v32 s31 => mm_bV (mE (d + 4) 45 [vr_ (some 0), vi_ 6, vi_ v32] s31) fun s33 => some (none, s33)) := by
      intro hp
      rw [if_pos hp]
      exact k_ftt h ht (fun s2 q2 h2 => k_ok h2)
    have okk : ¬ (((k = 29 ∨ k = 30) ∧ q 0 79 = 0) ∨ (k = 31 ∧ q 0 80 = 0) ∨ (k = 32 ∧ q 0 76 ≠ 0)) → kq_ z (if ((k = 29 ∨ k = 30) ∧ q 0 79 = 0) ∨ (k = 31 ∧ q 0 80 = 0) ∨ (k = 32 ∧ q 0 76 ≠ 0) then (ft_ z 6 (nI v.1) q).bind fun q1 => some (ts, es, sv, q1) else some (ts, es, sv, q)) (some (none, s)) := by
      intro hp
      rw [if_neg hp]
      exact k_ok h
    have g540 : ¬ ((k = 29 ∨ k = 30) ∧ q 0 79 = 0) → kq_ z (if ((k = 29 ∨ k = 30) ∧ q 0 79 = 0) ∨ (k = 31 ∧ q 0 80 = 0) ∨ (k = 32 ∧ q 0 76 ≠ 0) then (ft_ z 6 (nI v.1) q).bind fun q1 => some (ts, es, sv, q1) else some (ts, es, sv, q)) (mJ (d + 5) 85 540 [vr_ (some 0), vi_ (nI i), vi_ (nI k)] [] s) := by
      intro hp
      have g553 : ¬ (k = 31 ∧ q 0 80 = 0) → kq_ z (if ((k = 29 ∨ k = 30) ∧ q 0 79 = 0) ∨ (k = 31 ∧ q 0 80 = 0) ∨ (k = 32 ∧ q 0 76 ≠ 0) then (ft_ z 6 (nI v.1) q).bind fun q1 => some (ts, es, sv, q1) else some (ts, es, sv, q)) (mJ (d + 5) 85 553 [vr_ (some 0), vi_ (nI i), vi_ (nI k)] [] s) := by
        intro hp2
        rw [mj_commandOf_553, CR_0 h (i := 76) (by unfold kD; omega)]
        simp only [kk_ hi.2.2.1 32 (by decide)]
        by_cases c32 : k = 32
        · rw [if_pos c32]
          by_cases c76 : q 0 76 = 0
          · rw [if_pos c76]
            exact okk (by rintro (e | e | e); exact hp e; exact hp2 e; exact e.2 c76)
          · rw [if_neg c76]
            exact flt (Or.inr (Or.inr ⟨c32, c76⟩))
        · rw [if_neg c32]
          exact okk (by rintro (e | e | e); exact hp e; exact hp2 e; exact c32 e.1)
      rw [mj_commandOf_540, CR_0 h (i := 80) (by unfold kD; omega)]
      simp only [kk_ hi.2.2.1 31 (by decide)]
      by_cases c31 : k = 31
      · rw [if_pos c31]
        by_cases c80 : q 0 80 = 0
        · rw [if_pos c80]
          exact flt (Or.inr (Or.inl ⟨c31, c80⟩))
        · rw [if_neg c80]
          exact g553 (fun e => c80 e.2)
      · rw [if_neg c31]
        exact g553 (fun e => c31 e.1)
    rw [CR_0 h D79]
    by_cases c29 : k = 29
    · rw [if_pos c29]
      by_cases c79 : q 0 79 = 0
      · rw [if_pos c79]; exact flt (Or.inl ⟨Or.inl c29, c79⟩)
      · rw [if_neg c79]; exact g540 (fun e => c79 e.2)
    rw [if_neg c29]
    by_cases c30 : k = 30
    · rw [if_pos c30]
      by_cases c79 : q 0 79 = 0
      · rw [if_pos c79]; exact flt (Or.inl ⟨Or.inr c30, c79⟩)
      · rw [if_neg c79]; exact g540 (fun e => c79 e.2)
    rw [if_neg c30]
    exact g540 (fun e => by rcases e.1 with e | e <;> contradiction)
end CRcom
