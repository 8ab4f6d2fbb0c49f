/-! ===== routines, variables, blocks, labels of the checker ===== -/
section CRrout
variable {z s q : mm_S} {ts : List ctk} {es : List enT} {sv : List Int32} {r : Option ct_t}
theorem KE_at {s : mm_S} : ∀ {es : List enT} {j : Nat} {e : enT}, KE s es → es[j]? = some e → s 52 (es.length - 1 - j) = e.2.2.1
  | [], j, e, _, h => by simp at h
  | y :: r, 0, e, h, hx => by
    simp at hx
    subst hx
    have := h.1.2.2.1
    simpa using this
  | y :: r, j + 1, e, h, hx => by
    have := KE_at h.2 (by simpa using hx)
    rw [List.length_cons, show r.length + 1 - 1 - (j + 1) = r.length - 1 - j by omega]
    exact this
theorem k_wx {n f : Nat} {x y : Int32} {F : mm_S → Option ct_t} {K : mm_S → mm_O} (h : CR z s (ts, es, sv, q)) (hf : ∀ i, kD f i) (hk : ∀ s1, CR z s1 (ts, es, sv, mm_u q f x.toNatClampNeg y) → kq_ z (F (mm_u q f x.toNatClampNeg y)) (K s1)) : kq_ z ((mm_w n f x y q).bind F) ((mm_w n f x y s).bind K) := by
  unfold mm_w
  split
  · exact hk _ (CR_q h _ (hf _))
  · exact k_none
theorem kD7 {f : Nat} (h : 70 ≤ f ∧ f ≤ 72) : ∀ i, kD f i := fun i => by unfold kD; omega
theorem k_aq {n f : Nat} {x : Int32} {F : Int32 → Option ct_t} {K : Int32 → mm_O} (h : CR z s (ts, es, sv, q)) (hf : ∀ i, kD f i) (hk : ∀ v, kq_ z (F v) (K v)) : kq_ z ((mm_a n f x q).bind F) ((mm_a n f x s).bind K) := by
  rw [mm_a_cq h hf]
  exact k_a hk
theorem c_rou_312 {d i0 k i k0 : Nat} {v v0} {l nx l0 n0 : tr_} {x3 : Int32} (h : CR z s (ts, es, sv, q)) (h0 : Rc z (.inner k0 i0 v0 l0 n0)) (ht : Rc z (.inner k i v l nx)) (y1 : Int32) (hy : y1 = (if k < 20 then 1 else 0)) : kq_ z ((mm_w 3100 72 x3 (nI i) (mm_u q 0 76 y1)).bind fun q6 => tks [(if k < 20 then 3 else 2, .inner k i v l nx, 0)] ((7, .inner k0 i0 v0 l0 n0, 0) :: ts) es sv q6) (mJ (d + 2) 74 312 [vr_ (some 0), vi_ (nI i0), vi_ x3, vi_ (nI i)] [vi_ y1, vr_ (some 0)] s) := by
  rw [mj_routineOf_312]
  have hb : ∀ o : mm_O, mm_bz y1 o = o := fun o => by
    rw [hy]
    split <;> rfl
  rw [hb]
  have h1 := CR_q h (f := 0) (i := 76) y1 (by unfold kD; omega)
  refine k_wx h1 (kD7 (by omega)) (fun s2 h2 => ?_)
  refine k_tks (fun hl => ?_)
  simp only [List.length_cons, List.length_nil] at hl
  refine k_task 7 (.inner k0 i0 v0 l0 n0) h2 (by omega) (nlo_ _) rfl (by decide) h0 (fun s3 h3 => ?_)
  rw [CR_0 h3 (i := 76) (by unfold kD; omega), mu_n (by omega), mu_s]
  by_cases c : k < 20
  · rw [if_pos c] at hy ⊢
    rw [if_neg (show ¬ y1 = 0 by rw [hy]; decide)]
    exact k_task 3 (.inner k i v l nx) h3 (by simp only [List.length_cons]; omega) (nlo_ _) rfl (by decide) ht (fun s4 h4 => k_ok h4)
  · rw [if_neg c] at hy ⊢
    rw [if_pos (show y1 = 0 from hy)]
    exact k_task 2 (.inner k i v l nx) h3 (by simp only [List.length_cons]; omega) (nlo_ _) rfl (by decide) ht (fun s4 h4 => k_ok h4)
theorem c_rou_216 {d i0 k0 : Nat} {v0} {l0 n0 : tr_} {x3 : Int32} (h0 : Rc z (.inner k0 i0 v0 l0 n0)) : ∀ (t : tr_) (es : List enT) (q s : mm_S), CR z s (ts, es, sv, q) → Rc z t → kq_ z ((rpK z x3 t es q).bind fun y => (mm_w 3100 72 x3 (rt_ y.1) (mm_u (mm_u y.2.2 0 75 (y.2.2 0 74)) 0 76 (if kd_ y.1 < 20 then 1 else 0))).bind fun q6 => tks [(if kd_ y.1 < 20 then 3 else 2, y.1, 0)] ((7, .inner k0 i0 v0 l0 n0, 0) :: ts) y.2.1 sv q6) (mJ (d + 4) 74 216 [vr_ (some 0), vi_ (nI i0), vi_ x3, vi_ (rt_ t)] [] s)
  | .leaf, es, q, s, h, _ => by
    have e : rpK z x3 .leaf es q = none := by unfold rpK; rfl
    rw [e]
    exact k_none
  | .inner k i v l nx, es, q, s, h, ht => by
    have hi := Rc_i ht
    rw [hi.1, mj_routineOf_216, Rc_k h ht, Option.bind_some]
    simp only [kk_ hi.2.2.1 57 (by decide)]
    unfold rpK
    by_cases h57 : k = 57
    · rw [if_pos h57, if_pos h57, Rc_q h ht (by omega) (by omega), Option.bind_some, Rc_t h ht, Option.bind_some, CR_0 h (i := 74) (by unfold kD; omega), Option.bind_assoc]
      refine k_declare h (fun s1 y h1 => ?_)
      rw [CR_0 h1 (i := 74) (by unfold kD; omega), Option.bind_assoc]
      have h2 := CR_q h1 (f := 0) (i := 74) (y.2 0 74 + 1) (by unfold kD; omega)
      refine k_aq h2 (kD7 (by omega)) (fun w => ?_)
      rw [Option.bind_assoc]
      refine k_w h2 (kD7 (by omega)) (fun s3 q3 h3 => ?_)
      rw [Rc_n h3 ht, Option.bind_some]
      exact c_rou_216 h0 nx _ _ _ h3 (Rc_r ht)
    · rw [if_neg h57, if_neg h57, Option.bind_some]
      have h1 := CR_q h (f := 0) (i := 75) (q 0 74) (by unfold kD; omega)
      rw [CR_0 h (i := 74) (by unfold kD; omega), Rc_k h1 ht, Option.bind_some]
      simp only [nlt1_ 20 (show k < 2 ^ 31 by omega) (by decide)]
      dsimp only [kd_]
      rw [hi.1]
      by_cases c : k < 20
      · rw [if_pos c]
        have := c_rou_312 (d := d + 2) (x3 := x3) h1 h0 ht 1 (by rw [if_pos c])
        simp only [c, if_true] at this ⊢
        exact this
      · rw [if_neg c]
        have := c_rou_312 (d := d + 2) (x3 := x3) h1 h0 ht 0 (by rw [if_neg c])
        simp only [c, if_false] at this ⊢
        exact this
theorem c_rou_73 {d k0 i0 : Nat} {v0} {l0 n0 : tr_} {r0 : Int32} (h : CR z s (ts, es, sv, q)) (h0 : Rc z (.inner k0 i0 v0 l0 n0)) : kq_ z ((ini (q 31 i0) (1000000 + r0) q).bind fun q3 =>
    pus [q3 0 73, q3 0 74, q3 0 75, if q3 0 76 = 0 then 0 else 1, q3 0 77, q3 0 79, q3 0 80, q3 0 55, nI es.length] sv fun sv1 =>
    (mm_w 3100 71 r0 0 (mm_u (mm_u (mm_u (mm_u (mm_u (mm_u q3 0 73 r0) 0 74 2) 0 77 0) 0 79 0) 0 80 0) 0 55 (nI es.length))).bind fun q4 =>
    (rpK z r0 l0 es q4).bind fun y =>
    (mm_w 3100 72 r0 (rt_ y.1) (mm_u (mm_u y.2.2 0 75 (y.2.2 0 74)) 0 76 (if kd_ y.1 < 20 then 1 else 0))).bind fun q6 => tks [(if kd_ y.1 < 20 then 3 else 2, y.1, 0)] ((7, .inner k0 i0 v0 l0 n0, 0) :: ts) y.2.1 sv1 q6) (mJ (d + 4) 74 73 [vr_ (some 0), vi_ (nI i0), vi_ r0] [] s) := by
  rw [mj_routineOf_73, Rc_q h h0 (by omega) (by omega), Option.bind_some]
  refine k_init h (fun s1 q1 h1 => ?_)
  refine k_pus (fun hl => ?_)
  simp only [List.length_cons, List.length_nil] at hl
  have D : ∀ i, 73 ≤ i → i ≤ 84 → kD 0 i := fun i a b => by unfold kD; omega
  rw [CR_0 h1 (D 73 (by omega) (by omega))]
  refine k_put h1 (by omega) (fun s2 h2 => ?_)
  rw [CR_0 h2 (D 74 (by omega) (by omega))]
  refine k_put h2 (by simp only [List.length_cons]; omega) (fun s3 h3 => ?_)
  rw [CR_0 h3 (D 75 (by omega) (by omega))]
  refine k_put h3 (by simp only [List.length_cons]; omega) (fun s4 h4 => ?_)
  rw [CR_0 h4 (D 76 (by omega) (by omega))]
  have go : ∀ y1 : Int32, y1 = (if q1 0 76 = 0 then 0 else 1) → kq_ z ((mm_w 3100 71 r0 0 (mm_u (mm_u (mm_u (mm_u (mm_u (mm_u q1 0 73 r0) 0 74 2) 0 77 0) 0 79 0) 0 80 0) 0 55 (nI es.length))).bind fun q4 =>
    (rpK z r0 l0 es q4).bind fun y =>
    (mm_w 3100 72 r0 (rt_ y.1) (mm_u (mm_u y.2.2 0 75 (y.2.2 0 74)) 0 76 (if kd_ y.1 < 20 then 1 else 0))).bind fun q6 => tks [(if kd_ y.1 < 20 then 3 else 2, y.1, 0)] ((7, .inner k0 i0 v0 l0 n0, 0) :: ts) y.2.1 ([q1 0 73, q1 0 74, q1 0 75, if q1 0 76 = 0 then 0 else 1, q1 0 77, q1 0 79, q1 0 80, q1 0 55, nI es.length].reverse ++ sv) q6) (mJ (d + 4) 74 125 [vr_ (some 0), vi_ (nI i0), vi_ r0] [vi_ y1, vr_ (some 0)] s4) := by
    intro y1 hy
    rw [mj_routineOf_125]
    refine k_put h4 (by simp only [List.length_cons]; omega) (fun s5 h5 => ?_)
    rw [CR_0 h5 (D 77 (by omega) (by omega))]
    refine k_put h5 (by simp only [List.length_cons]; omega) (fun s6 h6 => ?_)
    rw [CR_0 h6 (D 79 (by omega) (by omega))]
    refine k_put h6 (by simp only [List.length_cons]; omega) (fun s7 h7 => ?_)
    rw [CR_0 h7 (D 80 (by omega) (by omega))]
    refine k_put h7 (by simp only [List.length_cons]; omega) (fun s8 h8 => ?_)
    rw [CR_0 h8 (i := 55) (by unfold kD; omega)]
    refine k_put h8 (by simp only [List.length_cons]; omega) (fun s9 h9 => ?_)
    rw [h9.2.2.1.2.1]
    refine k_put h9 (by simp only [List.length_cons]; omega) (fun s10 h10 => ?_)
    rw [h10.2.2.1.2.1]
    have h11 := CR_q (CR_q (CR_q (CR_q (CR_q (CR_q h10 (f := 0) (i := 73) r0 (by unfold kD; omega)) (f := 0) (i := 74) 2 (by unfold kD; omega)) (f := 0) (i := 77) 0 (by unfold kD; omega)) (f := 0) (i := 79) 0 (by unfold kD; omega)) (f := 0) (i := 80) 0 (by unfold kD; omega)) (f := 0) (i := 55) (nI es.length) (by unfold kD; omega)
    rw [Rc_c h11 h0, Option.bind_some]
    refine k_w h11 (kD7 (by omega)) (fun s12 q12 h12 => ?_)
    rw [← hy]
    exact c_rou_216 h0 l0 es q12 s12 h12 (Rc_l h0)
  by_cases c : q1 0 76 = 0
  · have g := go 0 (by rw [if_pos c])
    simp only [c, if_true] at g ⊢
    exact g
  · have g := go 1 (by rw [if_neg c])
    simp only [c, if_false] at g ⊢
    exact g
theorem c_ro (d : Nat) (t : tr_) (x2 : Int32) (h : CR z s (ts, es, sv, q)) (ht : Rc z t) : kq_ z (ro_ z t ts es sv q) (mE (d + 4) 74 [vr_ (some 0), vi_ (rt_ t), vi_ x2] s) := by
  cases t with
  | leaf => exact k_none
  | inner k i v l nx =>
    have hi := Rc_i ht
    rw [hi.1, me_routineOf, CR_0 h (i := 69) (by unfold kD; omega)]
    unfold ro_
    dsimp only
    have h1 := CR_q h (f := 0) (i := 69) (q 0 69 + 1) (by unfold kD; omega)
    refine k_wn h1 ht (by omega) (by omega) (fun s2 h2 => ?_)
    rw [Rc_q h2 ht (by omega) (by omega), Option.bind_some]
    by_cases c : 0 < mm_u (mm_u q 0 69 (q 0 69 + 1)) 29 i (q 0 69) 30 i
    · rw [if_pos c, if_pos c, Option.bind_assoc]
      refine k_ob (fun j hj => ?_)
      obtain ⟨ej, hj⟩ := ei_s hj
      rw [Option.bind_assoc]
      refine k_ob (fun e he => ?_)
      have e52 := KE_at h2.2.2.2.2.1 he
      rw [show es.length - 1 - (es.length - 1 - j) = j by omega] at e52
      have hl := h.2.2.2.2.2.2.2.1
      rw [Option.bind_some, Option.bind_some, ej, mm_a_n (by omega) (by decide), Option.bind_some, e52]
      exact k_wn h2 ht (by omega) (by omega) (fun s3 h3 => c_rou_73 h3 ht)
    · rw [if_neg c, if_neg c, Option.bind_some, CR_0 h2 (i := 81) (by unfold kD; omega)]
      refine k_wn h2 ht (by omega) (by omega) (fun s3 h3 => ?_)
      rw [CR_0 h3 (i := 81) (by unfold kD; omega)]
      have h4 := CR_q h3 (f := 0) (i := 81) (mm_u (mm_u (mm_u q 0 69 (q 0 69 + 1)) 29 i (q 0 69)) 31 i (mm_u (mm_u q 0 69 (q 0 69 + 1)) 29 i (q 0 69) 0 81) 0 81 + 1) (by unfold kD; omega)
      have e81 : mm_u (mm_u (mm_u q 0 69 (q 0 69 + 1)) 29 i (q 0 69)) 31 i (mm_u (mm_u q 0 69 (q 0 69 + 1)) 29 i (q 0 69) 0 81) 0 81 = mm_u (mm_u q 0 69 (q 0 69 + 1)) 29 i (q 0 69) 0 81 := mu_n (by omega)
      rw [e81] at h4 ⊢
      exact c_rou_73 h4 ht
/-! ends -/
theorem et_s {x : Int32} {es' : List enT} (h : et_ es x = some es') : x = nI es'.length ∧ es'.length ≤ es.length ∧ ∃ pre, es = pre ++ es' := by
  unfold et_ at h
  split at h
  · rename_i hc
    cases h
    have e : (es.drop (es.length - iN x)).length = iN x := by rw [List.length_drop]; omega
    rw [e]
    exact ⟨hc.1.symm, hc.2, _, (List.take_append_drop _ _).symm⟩
  · exact nomatch h
theorem CR_et {x : Int32} {es' : List enT} (h : CR z s (ts, es, sv, q)) (he : et_ es x = some es') : CR z (mm_u s 0 49 x) (ts, es', sv, q) := by
  obtain ⟨ex, hle, pre, hp⟩ := et_s he
  obtain ⟨a, b, ⟨c1, c2, c3⟩, e, g, k, l⟩ := h
  refine ⟨fun f' i' hz hd => ?_, fun f' i' hq => ?_, ⟨(mu_n (by omega)).trans c1, mu_s.trans ex, (mu_n (by omega)).trans c3⟩, KT_fr (fun f j x y _ => mu_n (by omega)) e, KE_fr (fun f j x y _ => mu_n (by omega)) (KE_ap (pre := pre) (by rw [← hp]; exact g)), KV_fr (fun j _ => mu_n (by omega)) k, l.1, by omega, l.2.2⟩
  · rw [mu_n (by rintro ⟨rfl, rfl⟩; unfold kS at hz; omega)]
    exact a f' i' hz hd
  · rw [mu_n (by rintro ⟨rfl, rfl⟩; unfold kD at hq; omega)]
    exact b f' i' hq
theorem c_re (d : Nat) (t : tr_) (h : CR z s (ts, es, sv, q)) (ht : Rc z t) : kq_ z (re_ t ts es sv q) (mE (d + 2) 75 [vr_ (some 0), vi_ (rt_ t)] s) := by
  match t, sv, h, ht with
  | .leaf, _, _, _ => exact k_none
  | .inner _ _ _ _ _, [], _, _ => exact k_none
  | .inner _ _ _ _ _, [_], _, _ => exact k_none
  | .inner _ _ _ _ _, [_, _], _, _ => exact k_none
  | .inner _ _ _ _ _, [_, _, _], _, _ => exact k_none
  | .inner _ _ _ _ _, [_, _, _, _], _, _ => exact k_none
  | .inner _ _ _ _ _, [_, _, _, _, _], _, _ => exact k_none
  | .inner _ _ _ _ _, [_, _, _, _, _, _], _, _ => exact k_none
  | .inner _ _ _ _ _, [_, _, _, _, _, _, _], _, _ => exact k_none
  | .inner _ _ _ _ _, [_, _, _, _, _, _, _, _], _, _ => exact k_none
  | .inner k i v l nx, a1 :: a2 :: a3 :: a4 :: a5 :: a6 :: a7 :: a8 :: a9 :: sv', h, ht =>
    have hi := Rc_i ht
    rw [hi.1, me_routineEnds, Rc_q h ht (by omega) (by omega), Option.bind_some, CR_0 h (i := 75) (by unfold kD; omega)]
    unfold re_
    dsimp only
    refine k_w h (kD7 (by omega)) (fun s1 q1 h1 => ?_)
    refine k_ob (fun es' he => ?_)
    refine k_pull h1 (fun s2 h2 => ?_)
    refine k_pull (CR_et h2 he) (fun s3 h3 => ?_)
    refine k_pull (CR_q h3 (f := 0) (i := 55) a2 (by unfold kD; omega)) (fun s4 h4 => ?_)
    refine k_pull (CR_q h4 (f := 0) (i := 80) a3 (by unfold kD; omega)) (fun s5 h5 => ?_)
    refine k_pull (CR_q h5 (f := 0) (i := 79) a4 (by unfold kD; omega)) (fun s6 h6 => ?_)
    refine k_pull (CR_q h6 (f := 0) (i := 77) a5 (by unfold kD; omega)) (fun s7 h7 => ?_)
    by_cases c : a6 = 1
    · rw [if_pos c, if_pos c]
      refine k_pull (CR_q h7 (f := 0) (i := 76) 1 (by unfold kD; omega)) (fun s8 h8 => ?_)
      refine k_pull (CR_q h8 (f := 0) (i := 75) a7 (by unfold kD; omega)) (fun s9 h9 => ?_)
      refine k_pull (CR_q h9 (f := 0) (i := 74) a8 (by unfold kD; omega)) (fun s10 h10 => ?_)
      exact k_ok (CR_q h10 (f := 0) (i := 73) a9 (by unfold kD; omega))
    · rw [if_neg c, if_neg c]
      refine k_pull (CR_q h7 (f := 0) (i := 76) 0 (by unfold kD; omega)) (fun s8 h8 => ?_)
      refine k_pull (CR_q h8 (f := 0) (i := 75) a7 (by unfold kD; omega)) (fun s9 h9 => ?_)
      refine k_pull (CR_q h9 (f := 0) (i := 74) a8 (by unfold kD; omega)) (fun s10 h10 => ?_)
      exact k_ok (CR_q h10 (f := 0) (i := 73) a9 (by unfold kD; omega))
theorem c_be (d : Nat) (x : Int32) (h : CR z s (ts, es, sv, q)) : kq_ z (be_ x ts es sv q) (mE (d + 2) 78 [vr_ (some 0), vi_ x] s) := by
  match sv, h with
  | [], _ => exact k_none
  | [_], _ => exact k_none
  | [_, _], _ => exact k_none
  | a1 :: a2 :: a3 :: sv', h =>
    rw [me_blockEnds]
    unfold be_
    dsimp only
    refine k_ob (fun es' he => ?_)
    refine k_pull h (fun s2 h2 => ?_)
    refine k_pull (CR_et h2 he) (fun s3 h3 => ?_)
    refine k_pull (CR_q h3 (f := 0) (i := 55) a2 (by unfold kD; omega)) (fun s4 h4 => ?_)
    rw [CR_0 h4 (i := 80) (by unfold kD; omega), mu_n (by omega)]
    exact k_ok (CR_q (CR_q h4 (f := 0) (i := 74) a3 (by unfold kD; omega)) (f := 0) (i := 80) (q 0 80 + x) (by unfold kD; omega))
theorem k_begin {d : Nat} {f : List Int32 → mm_S → Option ct_t} {K : mm_S → mm_O} (h : CR z s (ts, es, sv, q)) (hk : ∀ s1 sv1, CR z s1 (ts, es, sv1, mm_u q 0 55 (nI es.length)) → kq_ z (f sv1 (mm_u q 0 55 (nI es.length))) (K s1)) : kq_ z (bb_ es sv q f) (mm_bV (mE (d + 2) 79 [vr_ (some 0)] s) K) := by
  unfold bb_
  refine k_pus (fun hl => ?_)
  simp only [List.length_cons, List.length_nil] at hl
  rw [me_beginBlock]
  simp only [bV_as]
  rw [CR_0 h (i := 74) (by unfold kD; omega)]
  refine k_put h (by omega) (fun s2 h2 => ?_)
  rw [CR_0 h2 (i := 55) (by unfold kD; omega)]
  refine k_put h2 (by simp only [List.length_cons]; omega) (fun s3 h3 => ?_)
  rw [h3.2.2.1.2.1]
  refine k_put h3 (by simp only [List.length_cons]; omega) (fun s4 h4 => ?_)
  rw [bV_k, h4.2.2.1.2.1]
  exact hk _ _ (CR_q h4 (f := 0) (i := 55) (nI es.length) (by unfold kD; omega))
/-! variables of a LET -/
theorem c_ve_110 {d : Nat} : ∀ (t : tr_) (q s : mm_S), CR z s (ts, es, sv, q) → Rc z t → kq_ z (some (ts, es, sv, ve2 t q)) (mJ (d + 2) 77 110 [vr_ (some 0), vi_ (rt_ t)] [] s)
  | .leaf, q, s, h, _ => by
    rw [show rt_ (.leaf : tr_) = -1 from rfl, mj_varsEnd_110, if_pos (by decide)]
    exact k_ok h
  | .inner k i v l nx, q, s, h, ht => by
    have hi := Rc_i ht
    rw [hi.1, mj_varsEnd_110, if_neg hi.2.1, Rc_k h ht, Option.bind_some]
    simp only [kk_ hi.2.2.1 59 (by decide)]
    unfold ve2
    by_cases c : k = 59
    · rw [if_pos c, if_pos c, CR_0 h (i := 74) (by unfold kD; omega)]
      refine k_wn h ht (by omega) (by omega) (fun s1 h1 => ?_)
      rw [Rc_q h1 ht (by omega) (by omega), Option.bind_some, mu_n (by omega)]
      refine k_uses h1 (fun s2 h2 => ?_)
      rw [Rc_n h2 ht, Option.bind_some]
      exact c_ve_110 nx _ _ h2 (Rc_r ht)
    · rw [if_neg c, if_neg c, Rc_n h ht, Option.bind_some]
      exact c_ve_110 nx _ _ h (Rc_r ht)
theorem c_ve_25 {d k0 i0 : Nat} {v0} {l0 n0 : tr_} (h0 : Rc z (.inner k0 i0 v0 l0 n0)) : ∀ (t : tr_) (o m : Int32) (es : List enT) (q s : mm_S), CR z s (ts, es, sv, q) → Rc z t → kq_ z ((ve1 z t o m es q).bind fun y => some (ts, y.2.1, sv, ve2 l0 (us_ y.1 y.2.2))) (mJ (d + 4) 77 25 [vr_ (some 0), vi_ (nI i0), vi_ o, vi_ m, vi_ (rt_ t)] [] s)
  | .leaf, o, m, es, q, s, h, _ => by
    rw [show rt_ (.leaf : tr_) = -1 from rfl, mj_varsEnd_25, if_pos (by decide)]
    unfold ve1
    rw [Option.bind_some]
    refine k_uses h (fun s1 h1 => ?_)
    rw [Rc_c h1 h0, Option.bind_some]
    exact c_ve_110 l0 _ _ h1 (Rc_l h0)
  | .inner k i v l nx, o, m, es, q, s, h, ht => by
    have hi := Rc_i ht
    rw [hi.1, mj_varsEnd_25, if_neg hi.2.1, Rc_k h ht, Option.bind_some]
    simp only [kk_ hi.2.2.1 58 (by decide)]
    unfold ve1
    by_cases c : k = 58
    · rw [if_pos c, if_pos c, Option.bind_assoc]
      refine k_wn h ht (by omega) (by omega) (fun s1 h1 => ?_)
      rw [Rc_q h1 ht (by omega) (by omega), Option.bind_some, Rc_t h1 ht, Option.bind_some, CR_0 h1 (i := 73) (by unfold kD; omega), mu_n (by omega), mu_n (by omega)]
      refine k_declare h1 (fun s2 y h2 => ?_)
      rw [Rc_n h2 ht, Option.bind_some]
      exact c_ve_25 h0 nx _ _ _ _ _ h2 (Rc_r ht)
    · rw [if_neg c, if_neg c, Rc_n h ht, Option.bind_some]
      exact c_ve_25 h0 nx _ _ _ _ _ h (Rc_r ht)
theorem c_ve (d : Nat) (t : tr_) (h : CR z s (ts, es, sv, q)) (ht : Rc z t) : kq_ z (ve_ z t ts es sv q) (mE (d + 4) 77 [vr_ (some 0), vi_ (rt_ t)] s) := by
  cases t with
  | leaf => exact k_none
  | inner k i v l nx =>
    have hi := Rc_i ht
    rw [hi.1, me_varsEnd, CR_0 h (i := 74) (by unfold kD; omega)]
    unfold ve_
    dsimp only
    refine k_wn h ht (by omega) (by omega) (fun s1 h1 => ?_)
    rw [Rc_c h1 ht, Option.bind_some, CR_0 h1 (i := 74) (by unfold kD; omega), mu_n (by omega)]
    exact c_ve_25 ht l _ _ _ _ _ h1 (Rc_l ht)
/-! labels -/
theorem c_lab_39 {d n c : Nat} {kc} {vc} {lc nc : tr_} {F : List enT × mm_S → Option ct_t} {K : mm_S → mm_O} (hc : Rc z (.inner kc c vc lc nc)) (hF : ∀ s1 y, CR z s1 (ts, y.1, sv, y.2) → kq_ z (F y) (mm_bV (mJ (d + 4) 80 7 [vr_ (some 0), vi_ (nI n), vi_ (rt_ nc)] [] s1) K)) : ∀ (t : tr_) (es : List enT) (q s : mm_S), CR z s (ts, es, sv, q) → Rc z t → kq_ z ((lb2 z c t es q).bind F) (mm_bV (mJ (d + 4) 80 39 [vr_ (some 0), vi_ (nI n), vi_ (nI c), vi_ (rt_ t)] [] s) K)
  | .leaf, es, q, s, h, _ => by
    rw [show rt_ (.leaf : tr_) = -1 from rfl, mj_labelsOf_39, if_pos (by decide), Rc_n h hc, Option.bind_some]
    exact hF s (es, q) h
  | .inner k i v l nx, es, q, s, h, ht => by
    have hi := Rc_i ht
    rw [hi.1, mj_labelsOf_39, if_neg hi.2.1, Rc_k h ht, Option.bind_some]
    simp only [kk_ hi.2.2.1 42 (by decide)]
    unfold lb2
    by_cases c : k = 42
    · rw [if_pos c, if_pos c, Rc_q h ht (by omega) (by omega), Option.bind_some, Rc_t h ht, Option.bind_some, CR_0 h (i := 73) (by unfold kD; omega), CR_0 h (i := 77) (by unfold kD; omega), bVI_as, Option.bind_assoc]
      refine k_declare h (fun s2 y h2 => ?_)
      rw [Rc_n h2 ht, Option.bind_some]
      exact c_lab_39 hc hF nx _ _ _ h2 (Rc_r ht)
    · rw [if_neg c, if_neg c, Rc_n h ht, Option.bind_some]
      exact c_lab_39 hc hF nx _ _ _ h (Rc_r ht)
theorem c_lab_7 {d n : Nat} {F : List enT × mm_S → Option ct_t} {K : mm_S → mm_O} (hF : ∀ s1 y, CR z s1 (ts, y.1, sv, y.2) → kq_ z (F y) (K s1)) : ∀ (t : tr_) (es : List enT) (q s : mm_S), CR z s (ts, es, sv, q) → Rc z t → kq_ z ((lb1 z n t es q).bind F) (mm_bV (mJ (d + 4) 80 7 [vr_ (some 0), vi_ (nI n), vi_ (rt_ t)] [] s) K)
  | .leaf, es, q, s, h, _ => by
    rw [show rt_ (.leaf : tr_) = -1 from rfl, mj_labelsOf_7, if_pos (by decide)]
    exact hF s (es, q) h
  | .inner k i v l nx, es, q, s, h, ht => by
    have hi := Rc_i ht
    rw [hi.1, mj_labelsOf_7, if_neg hi.2.1, Rc_k h ht, Option.bind_some]
    simp only [kk_ hi.2.2.1 41 (by decide)]
    unfold lb1
    by_cases c : k = 41
    · rw [if_pos c, if_pos c, Option.bind_assoc, bb_as]
      refine k_wn h ht (by omega) (by omega) (fun s1 h1 => ?_)
      rw [Rc_c h1 ht, Option.bind_some]
      exact c_lab_39 ht (fun s2 y h2 => c_lab_7 hF nx _ _ _ h2 (Rc_r ht)) l _ _ _ h1 (Rc_l ht)
    · rw [if_neg c, if_neg c, Rc_n h ht, Option.bind_some]
      exact c_lab_7 hF nx _ _ _ h (Rc_r ht)
theorem k_labels {d k i : Nat} {v} {l nx : tr_} {F : List enT × mm_S → Option ct_t} {K : mm_S → mm_O} (h : CR z s (ts, es, sv, q)) (ht : Rc z (.inner k i v l nx)) (hF : ∀ s1 y, CR z s1 (ts, y.1, sv, y.2) → kq_ z (F y) (K s1)) : kq_ z ((lb1 z i l es q).bind F) (mm_bV (mE (d + 4) 80 [vr_ (some 0), vi_ (nI i)] s) K) := by
  rw [me_labelsOf, Rc_c h ht, Option.bind_some]
  exact c_lab_7 hF l _ _ _ h (Rc_l ht)
end CRrout
