/-! ===== FOR, VEC, SWITCHON, parts of sections: the checker ===== -/
section CRsw
variable {z s q : mm_S} {ts : List ctk} {es : List enT} {sv : List Int32} {r : Option ct_t}
theorem c_for_63 {d k i : Nat} {v} {l nx : tr_} (h : CR z s (ts, es, sv, q)) (ht : Rc z (.inner k i v l nx)) : kq_ z (some (ts, es, sv, mm_u q 29 i (gd_ 30000 q))) (mJ (d + 1) 81 63 [vr_ (some 0), vi_ (nI i)] [] s) := by
  have go : ∀ x : Int32, gd_ 30000 q = x → kq_ z (some (ts, es, sv, mm_u q 29 i (gd_ 30000 q))) ((mm_w 26000 29 (nI i) x s).bind fun s1 => some (none, s1)) := by
    intro x hx
    rw [hx]
    exact k_wn h ht (by omega) (by omega) (fun s1 h1 => k_ok h1)
  rw [mj_forName_63, CR_0 h (i := 58) (by unfold kD; omega), CR_0 h (i := 59) (by unfold kD; omega)]
  by_cases c1 : q 0 58 = 0
  · rw [if_pos c1]; exact go _ (by unfold gd_; rw [if_pos c1])
  rw [if_neg c1]
  by_cases c2 : q 0 59 < 0
  · rw [if_pos c2]; exact go _ (by unfold gd_; rw [if_neg c1, if_pos c2])
  rw [if_neg c2]
  by_cases c3 : 30000 < q 0 59
  · rw [if_pos c3]; exact go _ (by unfold gd_; rw [if_neg c1, if_neg c2, if_pos c3])
  rw [if_neg c3]; exact go _ (by unfold gd_; rw [if_neg c1, if_neg c2, if_neg c3])
theorem c_for_171 {d k i k0 i0 : Nat} {v v0} {l nx l0 n0 y : tr_} (h : CR z s (ts, es, sv, q)) (ht : Rc z (.inner k i v l nx)) (h0 : Rc z (.inner k0 i0 v0 l0 n0)) (hy : Rc z y) : kq_ z (bb_ es sv (mm_u q 29 i (rt_ y)) fun sv1 q2 =>
        (dc_k z (mm_u q2 31 i (q2 0 74) 29 i0) (nI v0.1) 4 (q2 0 74) (q2 0 73) 0 es (mm_u q2 31 i (q2 0 74))).bind fun w =>
        tks [(2, y, 0), (10, .leaf, -1), (9, .leaf, 0)] ts w.1 sv1 (mm_u (us_ 2 w.2) 0 79 (us_ 2 w.2 0 79 + 1))) (mJ (d + 4) 81 171 [vr_ (some 0), vi_ (nI i), vi_ (nI i0), vi_ (rt_ y)] [] s) := by
  rw [mj_forName_171]
  refine k_wn h ht (by omega) (by omega) (fun s1 h1 => ?_)
  refine k_begin h1 (fun s2 sv1 h2 => ?_)
  rw [CR_0 h2 (i := 74) (by unfold kD; omega)]
  refine k_wn h2 ht (by omega) (by omega) (fun s3 h3 => ?_)
  rw [Rc_q h3 h0 (by omega) (by omega), Option.bind_some, Rc_t h3 h0, Option.bind_some, CR_0 h3 (i := 74) (by unfold kD; omega), CR_0 h3 (i := 73) (by unfold kD; omega)]
  have e74 : ∀ (w : mm_S) (x : Int32), mm_u w 31 i x 0 74 = w 0 74 := fun w x => mu_n (by omega)
  have e73 : ∀ (w : mm_S) (x : Int32), mm_u w 31 i x 0 73 = w 0 73 := fun w x => mu_n (by omega)
  rw [e74 _ (mm_u _ 0 55 _ 0 74), e73]
  refine k_declare h3 (fun s4 w h4 => ?_)
  refine k_uses h4 (fun s5 h5 => ?_)
  rw [CR_0 h5 (i := 79) (by unfold kD; omega)]
  refine k_tks (fun hl => ?_)
  simp only [List.length_cons, List.length_nil] at hl
  refine k_task 9 .leaf (CR_q h5 (f := 0) (i := 79) (us_ 2 w.2 0 79 + 1) (by unfold kD; omega)) (by omega) (nlo_ _) rfl (by decide) trivial (fun s6 h6 => ?_)
  refine k_task 10 .leaf h6 (by simp only [List.length_cons]; omega) (nlo_ _) rfl (by decide) trivial (fun s7 h7 => ?_)
  refine k_task 2 y h7 (by simp only [List.length_cons]; omega) (nlo_ _) rfl (by decide) hy (fun s8 h8 => ?_)
  exact k_ok h8
theorem c_fo (d : Nat) (t : tr_) (h : CR z s (ts, es, sv, q)) (ht : Rc z t) : kq_ z (fo_ z t ts es sv q) (mE (d + 5) 81 [vr_ (some 0), vi_ (rt_ t)] s) := by
  cases t with
  | leaf => exact k_none
  | inner k i v l nx =>
    have hi := Rc_i ht
    rw [hi.1, me_forName, Rc_k h ht, Option.bind_some]
    simp only [kk_ hi.2.2.1 59 (by decide)]
    unfold fo_
    dsimp only
    by_cases c : k = 59
    · rw [if_pos c, if_pos c, Rc_c h ht, Option.bind_some]
      cases l with
      | leaf =>
        have e : cn_ z es .leaf q = none := rfl
        rw [e]
        exact k_none
      | inner k2 i2 v2 l2 r2 =>
        have hl := Rc_l ht
        refine k_const h hl (fun s1 q1 h1 => ?_)
        rw [show rt_ (.inner k2 i2 v2 l2 r2 : tr_) = nI i2 from rfl]
        exact k_gg h1 hl (fun s2 q2 h2 => c_for_63 h2 ht)
    · rw [if_neg c, if_neg c]
      cases l with
      | leaf => exact k_none
      | inner k0 i0 v0 l0 n0 =>
      cases n0 with
      | leaf => exact k_none
      | inner k1 i1 v1 l1 n1 =>
      cases n1 with
      | leaf => exact k_none
      | inner k2 i2 v2 l2 n2 =>
      cases n2 with
      | leaf => exact k_none
      | inner kb ib vb lb nb =>
        have h0 := Rc_l ht
        have h1 := Rc_r h0
        have h2 := Rc_r h1
        have h3 := Rc_r h2
        dsimp only
        rw [Rc_c h ht, Option.bind_some, (Rc_i h0).1, Rc_n h h0, Option.bind_some, (Rc_i h1).1, Rc_n h h1, Option.bind_some, (Rc_i h2).1, Rc_n h h2, Option.bind_some, (Rc_i h3).1]
        refine k_wn h ht (by omega) (by omega) (fun s1 g1 => ?_)
        rw [Rc_n g1 h3, Option.bind_some]
        by_cases c2 : rt_ nb < 0
        · rw [if_pos c2, if_pos c2, Option.bind_some]
          exact c_for_171 (d := d + 1) (y := .inner kb ib vb lb nb) g1 ht h0 h3
        · rw [if_neg c2, if_neg c2, Option.bind_assoc]
          refine k_const g1 h3 (fun s2 q2 g2 => ?_)
          rw [CR_0 g2 (i := 59) (by unfold kD; omega)]
          refine k_wn g2 ht (by omega) (by omega) (fun s3 g3 => ?_)
          rw [Rc_n g3 h3, Option.bind_some, Option.bind_some]
          exact c_for_171 (d := d + 1) (y := nb) g3 ht h0 (Rc_r h3)
/-! SWITCHON -/
def al_k (t : tr_) : List tr_ := (fs_ t).flatMap fun c => fs_ (ch_r c)
theorem al_i {k i : Nat} {v} {l nx : tr_} : al_k (.inner k i v l nx) = fs_ l ++ al_k nx := by
  simp [al_k, fs_, ch_r]
theorem c_tw_24 {d last c kc : Nat} {vc} {lc nc : tr_} (hc : Rc z (.inner kc c vc lc nc)) (hl : last < 26000) (h : CR z s (ts, es, sv, q)) (h12 : mJ (d + 1) 83 12 [vr_ (some 0), vi_ (nI last), vi_ (rt_ nc)] [] s = some (some (vi_ (zb_ (tw_k last q (al_k nc)))), s)) : ∀ (t : tr_), Rc z t → mJ (d + 1) 83 24 [vr_ (some 0), vi_ (nI last), vi_ (nI c), vi_ (rt_ t)] [] s = some (some (vi_ (zb_ (tw_k last q (fs_ t ++ al_k nc)))), s)
  | .leaf, _ => by
    rw [show rt_ (.leaf : tr_) = -1 from rfl, mj_isTwice_24, if_pos (by decide), Rc_n h hc, Option.bind_some]
    exact h12
  | .inner k i v l nx, ht => by
    have hi := Rc_i ht
    have ih := c_tw_24 hc hl h h12 nx (Rc_r ht)
    rw [hi.1, mj_isTwice_24, if_neg hi.2.1]
    show _ = some (some (vi_ (zb_ (tw_k last q (.inner k i v l nx :: (fs_ nx ++ al_k nc))))), s)
    unfold tw_k
    simp only [neq_ (show i < 2 ^ 31 by omega) (show last < 2 ^ 31 by omega)]
    by_cases c1 : i = last
    · rw [if_pos c1, if_pos c1]; rfl
    rw [if_neg c1, if_neg c1, Rc_k h ht, Option.bind_some, Rc_q h ht (by omega) (by omega), Option.bind_some, Rc_q h ht (by omega) (by omega), Option.bind_some, Rc_n h ht, Option.bind_some, mm_a_n hl (by decide), Option.bind_some, h.2.1 29 last (by unfold kD; omega)]
    simp only [kk_ hi.2.2.1 43 (by decide)]
    by_cases c2 : k = 43
    · rw [if_pos c2]
      by_cases c3 : q 30 i = 1
      · rw [if_pos c3]
        by_cases c4 : q 29 i = q 29 last
        · rw [if_pos c4, if_pos ⟨c2, c3, c4⟩]; rfl
        · rw [if_neg c4, if_neg (fun e => c4 e.2.2)]; exact ih
      · rw [if_neg c3, if_neg (fun e => c3 e.2.1)]; exact ih
    · rw [if_neg c2, if_neg (fun e => c2 e.1)]; exact ih
theorem c_tw_12 {d last : Nat} (hl : last < 26000) (h : CR z s (ts, es, sv, q)) : ∀ (t : tr_), Rc z t → mJ (d + 1) 83 12 [vr_ (some 0), vi_ (nI last), vi_ (rt_ t)] [] s = some (some (vi_ (zb_ (tw_k last q (al_k t)))), s)
  | .leaf, _ => by
    rw [show rt_ (.leaf : tr_) = -1 from rfl, mj_isTwice_12, if_pos (by decide)]
    rfl
  | .inner k i v l nx, ht => by
    have hi := Rc_i ht
    rw [hi.1, mj_isTwice_12, if_neg hi.2.1, Rc_c h ht, Option.bind_some, al_i]
    exact c_tw_24 ht hl h (c_tw_12 hl h nx (Rc_r ht)) l (Rc_l ht)
theorem m_isTwice {d last k0 i0 ka ia : Nat} {v0 va} {la ps n0 : tr_} (hl : last < 26000) (h : CR z s (ts, es, sv, q)) (h0 : Rc z (.inner k0 i0 v0 (.inner ka ia va la ps) n0)) : mE (d + 1) 83 [vr_ (some 0), vi_ (nI i0), vi_ (nI last)] s = some (some (vi_ (zb_ (tw_k last q (al_k ps)))), s) := by
  rw [me_isTwice, Rc_c h h0, Option.bind_some, show rt_ (.inner ka ia va la ps : tr_) = nI ia from rfl, Rc_n h (Rc_l h0), Option.bind_some]
  exact c_tw_12 hl h ps (Rc_r (Rc_l h0))
theorem c_sw_160 {d i0 k0 c k i ka ia : Nat} {v0 v va} {l nx la ps n0 : tr_} {o : Bool} {x3 : Int32} {F : Bool × mm_S → Option ct_t} (h0 : Rc z (.inner k0 i0 v0 (.inner ka ia va la ps) n0)) (ht : Rc z (.inner k i v l nx)) (ih : ∀ o q s, CR z s (ts, es, sv, q) → kq_ z ((sw2 z (al_k ps) es nx o q).bind F) (mJ (d + 2) 82 61 [vr_ (some 0), vi_ (nI i0), vi_ (zb_ o), vi_ x3, vi_ (nI c), vi_ (rt_ nx)] [] s)) (h : CR z s (ts, es, sv, q)) (y2 : Int32) (hl : l ≠ .leaf) : kq_ z ((if mm_u q 30 i y2 0 58 = 0 then some (mm_u q 30 i y2) else if tw_k i (mm_u q 30 i y2) (al_k ps) = true then ff_ z l (mm_u q 30 i y2) else some (mm_u q 30 i y2)).bind fun q3 => (sw2 z (al_k ps) es nx o q3).bind F) (mJ (d + 2) 82 160 [vr_ (some 0), vi_ (nI i0), vi_ (zb_ o), vi_ x3, vi_ (nI c), vi_ (nI i), vi_ (rt_ l)] [vi_ y2, vi_ (nI i), vr_ (some 30)] s) := by
  have hi := Rc_i ht
  rw [mj_switchOf_160]
  refine k_wn h ht (by omega) (by omega) (fun s1 h1 => ?_)
  rw [CR_0 h1 (i := 58) (by unfold kD; omega)]
  have nxt : ∀ s2 q2, CR z s2 (ts, es, sv, q2) → kq_ z ((sw2 z (al_k ps) es nx o q2).bind F) ((mm_a 26000 28 (nI i) s2).bind fun v2 => mJ (d + 2) 82 61 [vr_ (some 0), vi_ (nI i0), vi_ (zb_ o), vi_ x3, vi_ (nI c), vi_ v2] [] s2) := by
    intro s2 q2 h2
    rw [Rc_n h2 ht, Option.bind_some]
    exact ih _ _ _ h2
  by_cases c1 : mm_u q 30 i y2 0 58 = 0
  · rw [if_pos c1, if_pos c1, Option.bind_some]
    exact nxt _ _ h1
  rw [if_neg c1, if_neg c1, m_isTwice hi.2.2.2 h1 h0, bI_k]
  cases tw_k i (mm_u q 30 i y2) (al_k ps) with
  | false =>
    rw [if_pos (show zb_ false = 0 from rfl), if_neg (by decide), Option.bind_some]
    exact nxt _ _ h1
  | true =>
    rw [if_neg (show ¬ zb_ true = 0 by decide), if_pos rfl]
    obtain ⟨k2, i2, v2, l2, r2, rfl⟩ := rt_inn hl
    exact k_ff h1 (Rc_l ht) nxt
theorem c_sw_61 {d i0 k0 c ka ia : Nat} {v0 va} {la ps n0 : tr_} {x3 : Int32} {F : Bool × mm_S → Option ct_t} (h0 : Rc z (.inner k0 i0 v0 (.inner ka ia va la ps) n0)) (hF : ∀ s1 o1 q1, CR z s1 (ts, es, sv, q1) → kq_ z (F (o1, q1)) (mm_bV (mE (d + 4) 61 [vr_ (some 0), vi_ 13, vi_ (nI c), vi_ 0] s1) fun s1 => (mm_a 26000 28 (nI c) s1).bind fun v2 => mJ (d + 5) 82 47 [vr_ (some 0), vi_ (nI i0), vi_ (zb_ o1), vi_ x3, vi_ v2] [] s1)) : ∀ (t : tr_) (o : Bool) (q s : mm_S), CR z s (ts, es, sv, q) → Rc z t → kq_ z ((sw2 z (al_k ps) es t o q).bind F) (mJ (d + 5) 82 61 [vr_ (some 0), vi_ (nI i0), vi_ (zb_ o), vi_ x3, vi_ (nI c), vi_ (rt_ t)] [] s)
  | .leaf, o, q, s, h, _ => by
    rw [show rt_ (.leaf : tr_) = -1 from rfl, mj_switchOf_61, if_pos (by decide)]
    exact hF s o q h
  | .inner k i v l nx, o, q, s, h, ht => by
    have hi := Rc_i ht
    rw [hi.1, mj_switchOf_61, if_neg hi.2.1, Rc_k h ht, Option.bind_some]
    simp only [kk_ hi.2.2.1 44 (by decide)]
    unfold sw2
    have oth : ∀ o s1 q1, k ≠ 43 → CR z s1 (ts, es, sv, q1) → kq_ z ((sw2 z (al_k ps) es nx o q1).bind F) (mJ (d + 5) 82 101 [vr_ (some 0), vi_ (nI i0), vi_ (zb_ o), vi_ x3, vi_ (nI c), vi_ (nI i)] [] s1) := by
      intro o s1 q1 hk h1
      rw [mj_switchOf_101, Rc_k h1 ht, Option.bind_some]
      simp only [kk_ hi.2.2.1 43 (by decide)]
      rw [if_neg hk, Rc_n h1 ht, Option.bind_some]
      exact c_sw_61 h0 hF nx o _ _ h1 (Rc_r ht)
    by_cases c44 : k = 44
    · rw [if_pos c44, if_pos c44]
      cases o with
      | false =>
        rw [if_pos (show zb_ false = 0 from rfl), if_neg (by decide), Option.bind_some]
        exact oth true _ _ (by omega) h
      | true =>
        rw [if_neg (show ¬ zb_ true = 0 by decide), if_pos rfl, Option.bind_assoc]
        exact k_ftt h ht (fun s1 q1 h1 => oth true _ _ (by omega) h1)
    rw [if_neg c44, if_neg c44]
    by_cases c43 : k = 43
    · rw [if_pos c43, mj_switchOf_101, Rc_k h ht, Option.bind_some]
      simp only [kk_ hi.2.2.1 43 (by decide)]
      rw [if_pos c43, Rc_c h ht, Option.bind_some, Option.bind_assoc]
      by_cases hl : l = .leaf
      · subst hl
        have e : cn_ z es .leaf q = none := rfl
        rw [e]
        exact k_none
      refine k_const h (Rc_l ht) (fun s1 q1 h1 => ?_)
      rw [CR_0 h1 (i := 59) (by unfold kD; omega), Option.bind_assoc]
      refine k_wn h1 ht (by omega) (by omega) (fun s2 h2 => ?_)
      have e58 : mm_u q1 29 i (q1 0 59) 0 58 = q1 0 58 := mu_n (by omega)
      rw [CR_0 h2 (i := 58) (by unfold kD; omega), e58]
      have ih := fun o q s h => c_sw_61 h0 hF nx o q s h (Rc_r ht)
      by_cases c5 : q1 0 58 = 0
      · have := c_sw_160 (d := d + 3) (o := o) h0 ht ih h2 0 hl
        simp only [c5, if_true]
        exact this
      · have := c_sw_160 (d := d + 3) (o := o) h0 ht ih h2 1 hl
        simp only [c5, if_false]
        exact this
    · rw [if_neg c43]
      exact oth o _ _ c43 h
theorem c_sw_47 {d i0 k0 ka ia : Nat} {v0 va} {la ps n0 : tr_} (h0 : Rc z (.inner k0 i0 v0 (.inner ka ia va la ps) n0)) : ∀ (t : tr_) (acc : List ctk) (o : Bool) (q s : mm_S), CR z s (acc ++ ts, es, sv, q) → Rc z t → (chs 13 t).length + (acc ++ ts).length ≤ 26000 → kq_ z ((sw1 z (al_k ps) es t o q).bind fun w => some (acc.reverse ++ chs 13 t ++ ts, es, sv, w.2)) (mJ (d + 5) 82 47 [vr_ (some 0), vi_ (nI i0), vi_ (zb_ o), vi_ (nI ts.length), vi_ (rt_ t)] [] s)
  | .leaf, acc, o, q, s, h, _, _ => by
    rw [show rt_ (.leaf : tr_) = -1 from rfl, mj_switchOf_47, if_pos (by decide)]
    unfold sw1
    exact k_turn h rfl (fun s1 h1 => k_ok (by simpa [chs, fs_] using h1))
  | .inner k i v l nx, acc, o, q, s, h, ht, hl => by
    have hi := Rc_i ht
    have hl' : (chs 13 (.inner k i v l nx)).length = (chs 13 nx).length + 1 := by simp [chs, fs_]
    rw [hi.1, mj_switchOf_47, if_neg hi.2.1, Rc_c h ht, Option.bind_some]
    unfold sw1
    rw [Option.bind_assoc]
    refine c_sw_61 (ts := acc ++ ts) h0 (fun s1 o1 q1 h1 => ?_) l o q s h (Rc_l ht)
    refine k_task 13 (.inner k i v l nx) h1 (by omega) (nlo_ _) rfl (by omega) ht (fun s2 h2 => ?_)
    rw [Rc_n h2 ht, Option.bind_some]
    have := c_sw_47 (d := d) h0 nx ((13, .inner k i v l nx, 0) :: acc) o1 q1 s2 h2 (Rc_r ht) (by simp only [List.cons_append, List.length_cons]; omega)
    simpa [chs, fs_] using this
theorem c_sw (d : Nat) (t : tr_) (h : CR z s (ts, es, sv, q)) (ht : Rc z t) : kq_ z (sw_ z t ts es sv q) (mE (d + 5) 82 [vr_ (some 0), vi_ (rt_ t)] s) := by
  match t, ht with
  | .leaf, _ => exact k_none
  | .inner _ _ _ .leaf _, _ => exact k_none
  | .inner k i v (.inner ka ia va la ps) nx, ht =>
    have hi := Rc_i ht
    rw [hi.1, me_switchOf]
    unfold sw_
    dsimp only [nxo]
    rw [Option.bind_some]
    refine k_begin h (fun s1 sv1 h1 => ?_)
    rw [CR_0 h1 (i := 80) (by unfold kD; omega)]
    refine k_labels (CR_q h1 (f := 0) (i := 80) _ (by unfold kD; omega)) ht (fun s2 y h2 => ?_)
    by_cases hl : (chs 13 ps).length + ((9, (.leaf : tr_), (-1 : Int32)) :: ts).length ≤ 26000
    · have e : ∀ w : Bool × mm_S, tks (chs 13 ps) ((9, .leaf, -1) :: ts) y.1 sv1 w.2 = some (chs 13 ps ++ (9, .leaf, -1) :: ts, y.1, sv1, w.2) := fun w => by
        unfold tks
        rw [if_pos hl]
      simp only [e]
      refine k_task 9 .leaf h2 (by simp only [List.length_cons] at hl; omega) (nlo_ _) rfl (by decide) trivial (fun s3 h3 => ?_)
      rw [Rc_c h3 ht, Option.bind_some, show rt_ (.inner ka ia va la ps : tr_) = nI ia from rfl, Rc_n h3 (Rc_l ht), Option.bind_some, h3.2.2.1.1]
      exact c_sw_47 (ts := (9, .leaf, -1) :: ts) (d := d) ht ps [] false y.2 s3 h3 (Rc_r (Rc_l ht)) hl
    · have e : ∀ w : Bool × mm_S, tks (chs 13 ps) ((9, .leaf, -1) :: ts) y.1 sv1 w.2 = none := fun w => by
        unfold tks
        rw [if_neg hl]
      simp only [e, Option.bind_none]
      refine k_ob (fun w _ => ?_)
      exact k_none
theorem c_part_7 {d : Nat} : ∀ (t : tr_), Rc z t → CR z s (ts, es, sv, q) → kq_ z (match ls_r t with
    | .leaf => none
    | .inner k i v l r => tks [(2, .inner k i v l r, 0)] ts es sv q) (mJ (d + 2) 84 7 [vr_ (some 0), vi_ (rt_ t)] [] s)
  | .leaf, _, _ => k_none
  | .inner k i v l .leaf, ht, h => by
    have hi := Rc_i ht
    rw [hi.1, mj_part_7, Rc_n h ht, Option.bind_some, if_pos (by decide)]
    show kq_ z (tks [(2, .inner k i v l .leaf, 0)] ts es sv q) _
    refine k_tks (fun hl => ?_)
    simp only [List.length_cons, List.length_nil] at hl
    exact k_task 2 (.inner k i v l .leaf) h (by omega) (nlo_ _) rfl (by decide) ht (fun s1 h1 => k_ok h1)
  | .inner k i v l (.inner k2 i2 v2 l2 r2), ht, h => by
    have hi := Rc_i ht
    have hi2 := Rc_i (Rc_r ht)
    rw [hi.1, mj_part_7, Rc_n h ht, Option.bind_some, Option.bind_some, hi2.1, if_neg hi2.2.1]
    exact c_part_7 (.inner k2 i2 v2 l2 r2) (Rc_r ht) h
theorem c_part (d : Nat) (t : tr_) (h : CR z s (ts, es, sv, q)) (ht : Rc z t) : kq_ z (match ls_r (ch_r t) with
    | .leaf => none
    | .inner k i v l r => tks [(2, .inner k i v l r, 0)] ts es sv q) (mE (d + 2) 84 [vr_ (some 0), vi_ (rt_ t)] s) := by
  cases t with
  | leaf => exact k_none
  | inner k i v l nx =>
    have hi := Rc_i ht
    rw [hi.1, me_part, Rc_c h ht, Option.bind_some]
    exact c_part_7 l (Rc_l ht) h
end CRsw
