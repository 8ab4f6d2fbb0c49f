/-! ===== declarations of the checker ===== -/
section CRdecl2
variable {z s q : mm_S} {ts : List ctk} {es : List enT} {sv : List Int32} {r : Option ct_t}
theorem kk_ {k : Nat} (h : k < 100) : ∀ c, c < 2 ^ 31 → (nI k = (OfNat.ofNat c : Int32)) = (k = c) := fun c hc => neq1_ c (by omega) hc
theorem c_decl_60 {d : Nat} : ∀ (t : tr_) (acc : List ctk) (s : mm_S), CR z s (acc ++ ts, es, sv, q) → Rc z t → (vit t).length + (acc ++ ts).length ≤ 26000 → (∀ s1, CR z s1 (acc.reverse ++ vit t ++ ts, es, sv, q) → kq_ z r (some (none, s1))) → kq_ z r (mJ (d + 2) 72 60 [vr_ (some 0), vi_ (nI ts.length), vi_ (rt_ t)] [] s)
  | .leaf, acc, s, h, _, _, hk => by
    rw [show rt_ (.leaf : tr_) = -1 from rfl, mj_declaration_60, if_pos (by decide)]
    exact k_turn h rfl (fun s1 h1 => hk s1 (by simpa [vit, fs_] using h1))
  | .inner k i v l nx, acc, s, h, ht, hl, hk => by
    have hi := Rc_i ht
    rw [hi.1, mj_declaration_60, if_neg hi.2.1, Rc_k h ht, Option.bind_some, Option.bind_some]
    simp only [kk_ hi.2.2.1 58 (by decide), kk_ hi.2.2.1 59 (by decide)]
    by_cases h58 : k = 58
    · have e : vit (.inner k i v l nx) = vit nx := by simp [vit, fs_, kd_, h58]
      rw [e] at hl hk
      rw [if_pos h58, Rc_n h ht, Option.bind_some]
      exact c_decl_60 nx acc s h (Rc_r ht) hl hk
    · rw [if_neg h58]
      by_cases h59 : k = 59
      · have e : vit (.inner k i v l nx) = (11, .inner k i v l nx, 0) :: vit nx := by simp [vit, fs_, kd_, h59]
        rw [e] at hl hk
        simp only [List.length_cons] at hl
        rw [if_pos h59]
        refine k_task 11 (.inner k i v l nx) h (by omega) (nlo_ _) rfl (by omega) ht (fun s1 h1 => ?_)
        rw [Rc_n h1 ht, Option.bind_some]
        refine c_decl_60 nx ((11, .inner k i v l nx, 0) :: acc) s1 h1 (Rc_r ht) (by simp only [List.cons_append, List.length_cons]; omega) (fun s2 h2 => hk s2 ?_)
        simpa using h2
      · have e : vit (.inner k i v l nx) = (3, .inner k i v l nx, 0) :: vit nx := by simp [vit, fs_, kd_, h59, h58]
        rw [e] at hl hk
        simp only [List.length_cons] at hl
        rw [if_neg h59]
        refine k_task 3 (.inner k i v l nx) h (by omega) (nlo_ _) rfl (by omega) ht (fun s1 h1 => ?_)
        rw [Rc_n h1 ht, Option.bind_some]
        refine c_decl_60 nx ((3, .inner k i v l nx, 0) :: acc) s1 h1 (Rc_r ht) (by simp only [List.cons_append, List.length_cons]; omega) (fun s2 h2 => hk s2 ?_)
        simpa using h2
theorem c_decl_133 {d kd i0 : Nat} (hk0 : kd < 100) {F : List enT × mm_S → Option ct_t} (hF : ∀ s1 y, CR z s1 (ts, y.1, sv, y.2) → kq_ z (F y) ((mm_a 26000 27 (nI i0) s1).bind fun v1 => mJ (d + 4) 72 213 [vr_ (some 0), vi_ (nI kd), vi_ v1] [] s1)) : ∀ (t : tr_) (es : List enT) (q s : mm_S), CR z s (ts, es, sv, q) → Rc z t → kq_ z ((d1_ z kd t es q).bind F) (mJ (d + 4) 72 133 [vr_ (some 0), vi_ (nI i0), vi_ (nI kd), vi_ (rt_ t)] [] s)
  | .leaf, es, q, s, h, _ => by
    rw [show rt_ (.leaf : tr_) = -1 from rfl, mj_declaration_133, if_pos (by decide)]
    exact hF s (es, q) h
  | .inner k i v l nx, es, q, s, h, ht => by
    have hi := Rc_i ht
    have e : mJ (d + 4) 72 133 [vr_ (some 0), vi_ (nI i0), vi_ (nI kd), vi_ (nI i)] [] s = mJ (d + 4) 72 158 [vr_ (some 0), vi_ (nI i0), vi_ (nI kd), vi_ (nI i)] [vi_ (if kd = 50 then 1 else if kd = 51 then 2 else 3)] s := by
      rw [mj_declaration_133, if_neg hi.2.1]
      simp only [kk_ hk0 50 (by decide), kk_ hk0 51 (by decide)]
      by_cases h50 : kd = 50
      · rw [if_pos h50, if_pos h50]
      · rw [if_neg h50, if_neg h50]
        by_cases h51 : kd = 51
        · rw [if_pos h51, if_pos h51]
        · rw [if_neg h51, if_neg h51]
    rw [hi.1, e, mj_declaration_158]
    unfold d1_
    rw [Option.bind_assoc]
    refine k_name h ht (fun nm => ?_)
    rw [Rc_t h ht, Option.bind_some, Option.bind_assoc]
    simp only [kk_ hk0 52 (by decide)]
    have go : ∀ x : Int32, kq_ z ((dc_k z nm (nI v.1) (if kd = 50 then 1 else if kd = 51 then 2 else 3) x 0 0 es q).bind fun y => (d1_ z kd nx y.1 (mm_u y.2 30 i (nI es.length))).bind F) (mm_bI (mE (d + 3) 49 [vr_ (some 0), vi_ nm, vi_ (nI v.1), vi_ (if kd = 50 then 1 else if kd = 51 then 2 else 3), vi_ x, vi_ 0, vi_ 0] s) fun v5 s4 => (mm_w 26000 30 (nI i) v5 s4).bind fun s6 => (mm_a 26000 28 (nI i) s6).bind fun v7 => mJ (d + 4) 72 133 [vr_ (some 0), vi_ (nI i0), vi_ (nI kd), vi_ v7] [] s6) := by
      intro x
      refine k_declare h (fun s1 y h1 => ?_)
      refine k_wn h1 ht (by omega) (by omega) (fun s2 h2 => ?_)
      rw [Rc_n h2 ht, Option.bind_some]
      exact c_decl_133 hk0 hF nx _ _ s2 h2 (Rc_r ht)
    by_cases h52 : kd = 52
    · rw [if_pos h52, if_pos h52]; exact go _
    · rw [if_neg h52, if_neg h52]; exact go _
/-- a K's range -/
theorem k_gg {d k i : Nat} {v} {l nx : tr_} {K : mm_S → mm_O} {hi : Int32} {F : mm_S → Option ct_t} (h : CR z s (ts, es, sv, q)) (ht : Rc z (.inner k i v l nx)) (hk : ∀ s1 q1, CR z s1 (ts, es, sv, q1) → kq_ z (F q1) (K s1)) : kq_ z ((gg_ z (.inner k i v l nx) hi q).bind F) (if s 0 58 = 0 then K s else if s 0 59 < 0 then ((mm_a 26000 34 (nI i) s).bind fun v4 => mm_bI (mE (d + 1) 46 [vr_ (some 0), vi_ v4] s) fun v s2 => mm_bV (mE (d + 1) 45 [vr_ (some 0), vi_ 6, vi_ v] s2) K) else if hi < s 0 59 then ((mm_a 26000 34 (nI i) s).bind fun v4 => mm_bI (mE (d + 1) 46 [vr_ (some 0), vi_ v4] s) fun v s2 => mm_bV (mE (d + 1) 45 [vr_ (some 0), vi_ 6, vi_ v] s2) K) else K s) := by
  rw [CR_0 h (i := 58) (by unfold kD; omega), CR_0 h (i := 59) (by unfold kD; omega)]
  unfold gg_
  by_cases c1 : q 0 58 = 0
  · rw [if_pos c1, if_pos c1]; exact hk s q h
  rw [if_neg c1, if_neg c1]
  by_cases c2 : q 0 59 < 0
  · rw [if_pos c2, if_pos c2]; exact k_ff h ht hk
  rw [if_neg c2, if_neg c2]
  by_cases c3 : hi < q 0 59
  · rw [if_pos c3, if_pos c3]; exact k_ff h ht hk
  rw [if_neg c3, if_neg c3]; exact hk s q h
theorem rt_inn {t : tr_} (h : ¬ t = .leaf) : ∃ k i v l r, t = .inner k i v l r := by
  cases t with
  | leaf => exact absurd rfl h
  | inner k i v l r => exact ⟨_, _, _, _, _, rfl⟩
theorem lt_c {x : Int32} (a : Int32) (b : Int32) (h : b.toInt = a.toInt + 1) : (x < b) = ¬ (a < x) := by
  simp only [Int32.lt_iff_toInt_lt, eq_iff_iff]
  omega
theorem c_decl_359 {d kd k i j : Nat} {v} {l nx : tr_} (h : CR z s (ts, es, sv, q)) (ht : Rc z (.inner k i v l nx)) (hj : j < es.length) (ih : ∀ es s, CR z s (ts, es, sv, q) → kq_ z ((d2_ z kd nx es q).bind fun w => some (ts, w.1, sv, w.2)) (mJ (d + 1) 72 213 [vr_ (some 0), vi_ (nI kd), vi_ (rt_ nx)] [] s)) : kq_ z ((d2_ z kd nx (eu_ j (fun e => (e.1, e.2.1, gd_ 99 q, e.2.2.2.1, e.2.2.2.2.1, e.2.2.2.2.2)) es) q).bind fun w => some (ts, w.1, sv, w.2)) (mJ (d + 1) 72 359 [vr_ (some 0), vi_ (nI kd), vi_ (nI i), vi_ (nI j)] [] s) := by
  have go : ∀ x : Int32, gd_ 99 q = x → kq_ z ((d2_ z kd nx (eu_ j (fun e => (e.1, e.2.1, gd_ 99 q, e.2.2.2.1, e.2.2.2.2.1, e.2.2.2.2.2)) es) q).bind fun w => some (ts, w.1, sv, w.2)) ((mm_w 9000 52 (nI j) x s).bind fun s1 => (mm_a 26000 28 (nI i) s1).bind fun v2 => mJ (d + 1) 72 213 [vr_ (some 0), vi_ (nI kd), vi_ v2] [] s1) := by
    intro x hx
    refine k_e2 h hj (fun s1 h1 => ?_)
    rw [Rc_n h1 ht, Option.bind_some, hx]
    exact ih _ _ h1
  rw [mj_declaration_359, CR_0 h (i := 58) (by unfold kD; omega), CR_0 h (i := 59) (by unfold kD; omega)]
  simp only [lt_c (x := q 0 59) 99 100 rfl]
  by_cases c1 : q 0 58 = 0
  · rw [if_pos c1]; exact go _ (by unfold gd_; rw [if_pos c1])
  rw [if_neg c1]
  by_cases c2 : q 0 59 < 0
  · rw [if_pos c2]; exact go _ (by unfold gd_; rw [if_neg c1, if_pos c2])
  rw [if_neg c2]
  by_cases c3 : 99 < q 0 59
  · rw [if_neg (fun e => e c3)]; exact go _ (by unfold gd_; rw [if_neg c1, if_neg c2, if_pos c3])
  rw [if_pos c3]; exact go _ (by unfold gd_; rw [if_neg c1, if_neg c2, if_neg c3])
theorem c_decl_213 {d kd : Nat} (hk0 : kd < 100) : ∀ (t : tr_) (es : List enT) (q s : mm_S), CR z s (ts, es, sv, q) → Rc z t → kq_ z ((d2_ z kd t es q).bind fun w => some (ts, w.1, sv, w.2)) (mJ (d + 5) 72 213 [vr_ (some 0), vi_ (nI kd), vi_ (rt_ t)] [] s)
  | .leaf, es, q, s, h, _ => by
    rw [show rt_ (.leaf : tr_) = -1 from rfl, mj_declaration_213, if_pos (by decide)]
    exact k_ok h
  | .inner k i v .leaf nx, es, q, s, h, ht => by
    have e : d2_ z kd (.inner k i v .leaf nx) es q = none := by
      unfold d2_
      rfl
    rw [e]
    exact k_none
  | .inner k i v (.inner k2 i2 v2 l2 r2) nx, es, q, s, h, ht => by
    have hi := Rc_i ht
    have hl := Rc_l ht
    rw [hi.1, mj_declaration_213, if_neg hi.2.1, Rc_c h ht, Option.bind_some]
    unfold d2_
    rw [Option.bind_assoc]
    refine k_const h hl (fun s1 q1 h1 => ?_)
    rw [Rc_q h1 ht (by omega) (by omega), Option.bind_some]
    simp only [kk_ hk0 51 (by decide), kk_ hk0 52 (by decide)]
    by_cases h52 : kd = 52
    · rw [if_pos h52, if_pos h52, CR_0 h1 (i := 81) (by unfold kD; omega), Option.bind_assoc]
      refine k_wn h1 ht (by omega) (by omega) (fun s2 h2 => ?_)
      rw [CR_0 h2 (i := 81) (by unfold kD; omega), CR_0 h2 (i := 59) (by unfold kD; omega), mu_n (by omega), mu_n (by omega)]
      refine k_init h2 (fun s3 q3 h3 => ?_)
      rw [CR_0 h3 (i := 81) (by unfold kD; omega)]
      have h4 := CR_q h3 (f := 0) (i := 81) (q3 0 81 + 1) (by unfold kD; omega)
      rw [Rc_n h4 ht, Option.bind_some]
      exact c_decl_213 hk0 nx es _ _ h4 (Rc_r ht)
    rw [if_neg h52, if_neg h52, Option.bind_assoc]
    refine k_ob (fun j hj => ?_)
    obtain ⟨ej, hj⟩ := ei_s hj
    rw [ej]
    by_cases h51 : kd = 51
    · rw [if_pos h51, if_pos h51, CR_0 h1 (i := 58) (by unfold kD; omega)]
      have go : ∀ x : Int32, kq_ z ((d2_ z kd nx (eu_ j (fun e => (e.1, e.2.1, q1 0 59, x, e.2.2.2.2.1, e.2.2.2.2.2)) es) q1).bind fun w => some (ts, w.1, sv, w.2)) (mJ (d + 5) 72 300 [vr_ (some 0), vi_ (nI kd), vi_ (nI i), vi_ (nI j)] [vi_ x, vi_ (nI j), vr_ (some 53)] s1) := by
        intro x
        rw [mj_declaration_300]
        refine k_e3 h1 hj (fun s2 h2 => ?_)
        rw [CR_0 h2 (i := 59) (by unfold kD; omega)]
        refine k_e2 h2 (by rw [eu_len]; exact hj) (fun s3 h3 => ?_)
        rw [Rc_n h3 ht, Option.bind_some]
        rw [eu_eu] at h3
        exact c_decl_213 hk0 nx _ _ _ h3 (Rc_r ht)
      by_cases c : q1 0 58 = 0
      · have g1 := go 1
        rw [if_pos c]
        simp only [c, if_true]
        exact g1
      · have g1 := go 2
        rw [if_neg c]
        simp only [c, if_false]
        exact g1
    · rw [if_neg h51, if_neg h51, Option.bind_assoc]
      have e27 : ∀ F : Int32 → mm_O, ((mm_a 26000 27 (nI i) s1).bind F) = F (nI i2) := fun F => by rw [Rc_c h1 ht, Option.bind_some]; rfl
      simp only [e27]
      exact k_gg h1 hl (fun s2 q2 h2 => c_decl_359 h2 ht hj (fun es s h => c_decl_213 hk0 nx es _ _ h (Rc_r ht)))
/-! routines of a LET -/
theorem c_let_45 {d i0 k i : Nat} {v} {l nx : tr_} {ot : Bool} {nm : Int32} {G : List enT × mm_S → Option ct_t} (h : CR z s (ts, es, sv, q)) (ht : Rc z (.inner k i v l nx)) (hG : ∀ s1 y, CR z s1 (ts, y.1, sv, y.2) → kq_ z (G y) (mJ (d + 4) 73 134 [vr_ (some 0), vi_ (nI i0), vi_ (zb_ ot), vi_ (nI i), vi_ nm] [] s1)) : kq_ z ((lr1 z ot i (nI v.1) nm es q).bind G) (mJ (d + 4) 73 45 [vr_ (some 0), vi_ (nI i0), vi_ (zb_ ot), vi_ (nI i), vi_ nm] [vi_ (match (if ot = true then mn_k nm es else none) with | none => -1 | some (j, _) => nI j)] s) := by
  rw [mj_letRoutines_45]
  refine k_wn h ht (by omega) (by omega) (fun s1 h1 => ?_)
  unfold lr1
  have dec : kq_ z ((dc_k z nm (nI v.1) 3 (nI i) 0 0 es (mm_u q 30 i 0)).bind G) ((mm_a 26000 26 (nI i) s1).bind fun v2 => mm_bI (mE (d + 3) 49 [vr_ (some 0), vi_ nm, vi_ v2, vi_ 3, vi_ (nI i), vi_ 0, vi_ 0] s1) fun v4 s3 => mJ (d + 4) 73 134 [vr_ (some 0), vi_ (nI i0), vi_ (zb_ ot), vi_ (nI i), vi_ nm] [] s3) := by
    rw [Rc_t h1 ht, Option.bind_some]
    exact k_declare h1 (fun s2 y h2 => hG s2 y h2)
  cases hm : (if ot = true then mn_k nm es else none) with
  | none =>
    dsimp only
    rw [if_pos (by decide)]
    exact dec
  | some je =>
    obtain ⟨j, e⟩ := je
    dsimp only
    have hm' : mn_k nm es = some (j, e) := by
      split at hm
      · exact hm
      · exact nomatch hm
    obtain ⟨hj, _, a2, a3, a4, a5, _⟩ := KE_mn h1.2.2.2.2.1 hm'
    have hl := h.2.2.2.2.2.2.2.1
    rw [if_neg (show ¬ nI j < 0 by rw [nlt1_ 0 (by omega) (by decide)]; omega), mm_a_n (n := j) (by omega) (by decide), Option.bind_some, a2]
    by_cases c1 : e.2.1 = 1
    · rw [if_pos c1, if_pos c1, mm_a_n (n := j) (by omega) (by decide), Option.bind_some, a5]
      have fin : ∀ s2 q2, CR z s2 (ts, es, sv, q2) → kq_ z (G (eu_ j (fun e => (e.1, e.2.1, e.2.2.1, e.2.2.2.1, 1, e.2.2.2.2.2)) es, mm_u q2 30 i (1 + nI j))) ((mm_w 9000 54 (nI j) 1 s2).bind fun s11 => (mm_w 26000 30 (nI i) (1 + nI j) s11).bind fun s12 => mJ (d + 4) 73 134 [vr_ (some 0), vi_ (nI i0), vi_ (zb_ ot), vi_ (nI i), vi_ nm] [] s12) := by
        intro s2 q2 h2
        refine k_e4 h2 hj (fun s3 h3 => ?_)
        exact k_wn h3 ht (by omega) (by omega) (fun s4 h4 => hG s4 (_, _) h4)
      by_cases c2 : e.2.2.2.2.1 = 1
      · rw [if_pos c2, if_pos c2, Option.bind_assoc]
        exact k_ftt h1 ht (fun s2 q2 h2 => fin s2 q2 h2)
      · rw [if_neg c2, if_neg c2]
        exact fin s1 _ h1
    · rw [if_neg c1, if_neg c1]
      exact dec
theorem c_let_20 {d i0 : Nat} {ot : Bool} {F : List enT × mm_S → Option ct_t} (hF : ∀ s1 y, CR z s1 (ts, y.1, sv, y.2) → kq_ z (F y) (mm_bV (mE (d + 3) 65 [vr_ (some 0), vi_ (nI i0), vi_ 6] s1) fun s1 => some (none, s1))) : ∀ (t : tr_) (es : List enT) (q s : mm_S), CR z s (ts, es, sv, q) → Rc z t → kq_ z ((lr_ z ot t es q).bind F) (mJ (d + 4) 73 20 [vr_ (some 0), vi_ (nI i0), vi_ (zb_ ot), vi_ (rt_ t)] [] s)
  | .leaf, es, q, s, h, _ => by
    rw [show rt_ (.leaf : tr_) = -1 from rfl, mj_letRoutines_20, if_pos (by decide)]
    exact hF s (es, q) h
  | .inner k i v l nx, es, q, s, h, ht => by
    have hi := Rc_i ht
    rw [hi.1, mj_letRoutines_20, if_neg hi.2.1]
    unfold lr_
    rw [Option.bind_assoc]
    refine k_name h ht (fun nm => ?_)
    rw [Option.bind_assoc]
    have fin : ∀ s1 (y : List enT × mm_S), CR z s1 (ts, y.1, sv, y.2) → kq_ z ((lr_ z ot nx y.1 (if ot = true ∧ nm = y.2 0 83 ∧ y.2 0 82 < 0 then mm_u y.2 0 82 (nI i) else y.2)).bind F) (mJ (d + 4) 73 134 [vr_ (some 0), vi_ (nI i0), vi_ (zb_ ot), vi_ (nI i), vi_ nm] [] s1) := by
      intro s1 y h1
      have g : ∀ s2 q2, CR z s2 (ts, y.1, sv, q2) → kq_ z ((lr_ z ot nx y.1 q2).bind F) ((mm_a 26000 28 (nI i) s2).bind fun v2 => mJ (d + 4) 73 20 [vr_ (some 0), vi_ (nI i0), vi_ (zb_ ot), vi_ v2] [] s2) := by
        intro s2 q2 h2
        rw [Rc_n h2 ht, Option.bind_some]
        exact c_let_20 hF nx _ _ _ h2 (Rc_r ht)
      rw [mj_letRoutines_134, CR_0 h1 (i := 83) (by unfold kD; omega), CR_0 h1 (i := 82) (by unfold kD; omega)]
      cases ot with
      | false =>
        rw [if_pos (show zb_ false = 0 from rfl), if_neg (fun e => Bool.noConfusion e.1)]
        exact g _ _ h1
      | true =>
        rw [if_neg (show ¬ zb_ true = 0 by decide)]
        by_cases c1 : nm = y.2 0 83
        · rw [if_pos c1]
          by_cases c2 : y.2 0 82 < 0
          · rw [if_pos c2, if_pos ⟨rfl, c1, c2⟩]
            exact g _ _ (CR_q h1 _ (by unfold kD; omega))
          · rw [if_neg c2, if_neg (fun e => c2 e.2.2)]
            exact g _ _ h1
        · rw [if_neg c1, if_neg (fun e => c1 e.2.1)]
          exact g _ _ h1
    have g45 := c_let_45 (d := d) (i0 := i0) (ot := ot) (nm := nm) h ht fin
    cases ot with
    | false =>
      rw [if_pos (show zb_ false = 0 from rfl)]
      exact g45
    | true =>
      rw [if_neg (show ¬ zb_ true = 0 by decide), m_means h, bI_k]
      exact g45
theorem c_letR (d : Nat) {k i : Nat} {v} {l nx : tr_} (h : CR z s (ts, es, sv, q)) (ht : Rc z (.inner k i v l nx)) : kq_ z ((lr_ z (decide (q 0 73 < 0)) l es q).bind fun y => tks (chs 6 l) ts y.1 sv y.2) (mE (d + 4) 73 [vr_ (some 0), vi_ (nI i)] s) := by
  have hF : ∀ s1 (y : List enT × mm_S), CR z s1 (ts, y.1, sv, y.2) → kq_ z (tks (chs 6 l) ts y.1 sv y.2) (mm_bV (mE (d + 3) 65 [vr_ (some 0), vi_ (nI i), vi_ 6] s1) fun s1 => some (none, s1)) := by
    intro s1 y h1
    exact k_tks (fun hl => k_children (g := 6) (by omega) h1 ht hl (fun s2 h2 => k_ok h2))
  rw [me_letRoutines, CR_0 h (i := 73) (by unfold kD; omega), Rc_c h ht, Option.bind_some, Option.bind_some]
  by_cases c : q 0 73 < 0
  · rw [if_pos c, decide_eq_true c]
    exact c_let_20 (ot := true) hF l es q s h (Rc_l ht)
  · rw [if_neg c, decide_eq_false c]
    exact c_let_20 (ot := false) hF l es q s h (Rc_l ht)
theorem c_deK (d : Nat) (t : tr_) (h : CR z s (ts, es, sv, q)) (ht : Rc z t) : kq_ z (deK z t ts es sv q) (mE (d + 5) 72 [vr_ (some 0), vi_ (rt_ t)] s) := by
  cases t with
  | leaf => exact k_none
  | inner k i v l nx =>
    have hi := Rc_i ht
    rw [hi.1, me_declaration, Rc_k h ht, Option.bind_some]
    simp only [kk_ hi.2.2.1 53 (by decide)]
    unfold deK
    dsimp only
    by_cases h53 : k = 53
    · rw [if_pos h53, if_pos h53, Rc_c h ht, Option.bind_some, Option.bind_some]
      cases l with
      | leaf => exact k_none
      | inner k2 i2 v2 l2 r2 =>
        have hl := Rc_l ht
        have hi2 := Rc_i hl
        dsimp only
        rw [hi2.1, Rc_k h hl, Option.bind_some]
        simp only [kk_ hi2.2.2.1 55 (by decide)]
        by_cases h55 : k2 = 55
        · rw [if_pos h55, if_pos h55]
          refine k_tks (fun hlen => ?_)
          simp only [List.length_cons] at hlen
          refine k_task 8 (.inner k2 i2 v2 l2 r2) h (by omega) (nlo_ _) rfl (by decide) hl (fun s1 h1 => ?_)
          rw [Rc_c h1 ht, Option.bind_some, hi2.1, Rc_c h1 hl, Option.bind_some, h1.2.2.1.1]
          exact c_decl_60 (ts := (8, .inner k2 i2 v2 l2 r2, 0) :: ts) l2 [] s1 h1 (Rc_l hl) (by simpa using hlen) (fun s2 h2 => k_ok (by simpa using h2))
        · rw [if_neg h55, if_neg h55]
          exact k_ret (c_letR d h ht)
    · rw [if_neg h53, if_neg h53, Rc_c h ht, Option.bind_some]
      refine c_decl_133 (d := d + 1) hi.2.2.1 (fun s1 y h1 => ?_) l es q s h (Rc_l ht)
      rw [Rc_c h1 ht, Option.bind_some]
      exact c_decl_213 (d := d) hi.2.2.1 l _ _ s1 h1 (Rc_l ht)
end CRdecl2
