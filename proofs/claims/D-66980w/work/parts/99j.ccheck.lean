/-! ===== the checker whole ===== -/
section CRgo
variable {z s q : mm_S} {ts : List ctk} {es : List enT} {sv : List Int32} {r : Option ct_t}
theorem c_go (d : Nat) (x : ctk) (h : CR z s (ts, es, sv, q)) (ht : Rc z x.2.1) (hx : x.1 < 100) : kq_ z (go_k z x ts es sv q) (mE (d + 6) 70 [vr_ (some 0), vi_ (nI x.1), vi_ (if x.1 = 9 ∨ x.1 = 10 then 0 else rt_ x.2.1), vi_ x.2.2] s) := by
  obtain ⟨g, t, a⟩ := x
  dsimp only at ht hx ⊢
  rw [me_go]
  simp only [kk_ hx 1 (by decide), kk_ hx 2 (by decide), kk_ hx 3 (by decide), kk_ hx 4 (by decide), kk_ hx 5 (by decide), kk_ hx 6 (by decide), kk_ hx 7 (by decide), kk_ hx 8 (by decide), kk_ hx 9 (by decide), kk_ hx 10 (by decide), kk_ hx 11 (by decide), kk_ hx 12 (by decide), kk_ hx 13 (by decide)]
  unfold go_k
  dsimp only
  have R : ¬ (g = 9 ∨ g = 10) → (if g = 9 ∨ g = 10 then (0 : Int32) else rt_ t) = rt_ t := fun e => if_neg e
  refine k_ite (fun c => ?_) (fun c1 => ?_)
  · rw [R (by omega)]; exact k_ret (c_deK d t h ht)
  refine k_ite (fun c => ?_) (fun c2 => ?_)
  · rw [R (by omega)]; exact k_ret (c_co d t h ht)
  refine k_ite (fun c => ?_) (fun c3 => ?_)
  · rw [R (by omega)]; exact k_ret (c_ex d t h ht)
  refine k_ite (fun c => ?_) (fun c4 => ?_)
  · rw [R (by omega), if_pos c]; exact k_ret (c_pc (d + 2) true t h ht)
  refine k_ite (fun c => ?_) (fun c5 => ?_)
  · rw [R (by omega), if_neg c4]; exact k_ret (c_pc (d + 2) false t h ht)
  refine k_ite (fun c => ?_) (fun c6 => ?_)
  · rw [R (by omega)]; exact k_ret (c_ro (d + 1) t a h ht)
  refine k_ite (fun c => ?_) (fun c7 => ?_)
  · rw [R (by omega)]; exact k_ret (c_re (d + 3) t h ht)
  refine k_ite (fun c => ?_) (fun c8 => ?_)
  · rw [R (by omega)]; exact k_ret (c_ve (d + 1) t h ht)
  refine k_ite (fun c => ?_) (fun c9 => ?_)
  · exact k_ret (c_be (d + 3) a h)
  refine k_ite (fun c => ?_) (fun c10 => ?_)
  · rw [CR_0 h (i := 79) (by unfold kD; omega)]
    exact k_ok (CR_q h _ (by unfold kD; omega))
  refine k_ite (fun c => ?_) (fun c11 => ?_)
  · rw [R (by omega)]; exact k_ret (c_fo d t h ht)
  refine k_ite (fun c => ?_) (fun c12 => ?_)
  · rw [R (by omega)]; exact k_ret (c_sw d t h ht)
  refine k_ite (fun c => ?_) (fun c13 => ?_)
  · rw [R (by omega)]; exact k_ret (c_part (d + 3) t h ht)
  match sv, h with
  | [], _ => exact k_none
  | [_], _ => exact k_none
  | [_, _], _ => exact k_none
  | a1 :: a2 :: a3 :: sv', h =>
    dsimp only
    refine k_pull h (fun s2 h2 => ?_)
    refine k_pull (CR_q h2 (f := 0) (i := 80) a1 (by unfold kD; omega)) (fun s3 h3 => ?_)
    refine k_pull (CR_q h3 (f := 0) (i := 79) a2 (by unfold kD; omega)) (fun s4 h4 => ?_)
    exact k_ok (CR_q h4 (f := 0) (i := 77) a3 (by unfold kD; omega))
end CRgo
/-- all that is to be looked at -/
def ckF (z : mm_S) (R : ct_t → Option ct_t) : ct_t → Option ct_t
  | ([], es, sv, q) => some ([], es, sv, q)
  | (x :: ts, es, sv, q) => (go_k z x ts es sv q).bind R
noncomputable def ckR (z : mm_S) (σ : ct_t) : Option ct_t := pj_lfp (ckF z) σ
theorem ckF_mono (z : mm_S) : pj_mono (ckF z) := by
  intro f g h x r e
  match x, e with
  | ([], es, sv, q), e => exact e
  | (x :: ts, es, sv, q), e => exact pj_bind_up (o := go_k z x ts es sv q) e (fun _ _ q => h _ _ q)
theorem ckF_cpt (z : mm_S) : pj_cpt (ckF z) := by
  intro f g up h x r e
  match x, e with
  | ([], es, sv, q), e => exact ⟨0, e⟩
  | (x :: ts, es, sv, q), e =>
    have e : (go_k z x ts es sv q).bind g = some r := e
    show ∃ n, (go_k z x ts es sv q).bind (f n) = some r
    cases hg : go_k z x ts es sv q with
    | none => rw [hg] at e; cases e
    | some y =>
      rw [hg] at e
      exact h _ _ e
theorem ckR_eq (z : mm_S) (σ : ct_t) : ckR z σ = ckF z (ckR z) σ := pj_lfp_eq (ckF_mono z) (ckF_cpt z) σ
/-- too many words, routines, words of a frame -/
def lgk (q : mm_S) : Bool := decide (1600 < q 0 81) || decide (200 < q 0 69) || (List.range (q 0 69).toNatClampNeg).any fun r => decide (32000 < q 70 r)
def ckE (q : mm_S) : Option mm_S := if q 0 12 = 0 then (if q 0 69 < 0 ∨ 3100 < q 0 69 then none else if q 0 82 < 0 ∨ lgk q = true then some (fa_ 7 0 q) else some q) else some q
section CRend
variable {z s q : mm_S} {ts : List ctk} {es : List enT} {sv : List Int32} {r : Option ct_t}
theorem c_end_227 {d n : Nat} (h : CR z s (ts, es, sv, q)) (hn : n ≤ 3100) (e69 : q 0 69 = nI n) : ∀ m j (b : Bool), j + m = n → kq_ z (if q 0 82 < 0 ∨ (b || (List.range' j m).any fun r => decide (32000 < q 70 r)) = true then some (ts, es, sv, fa_ 7 0 q) else some (ts, es, sv, q)) (mJ (d + 2) 69 227 [vr_ (some 0), vi_ (zb_ b), vi_ (nI j)] [] s)
  | 0, j, b, hj => by
    rw [mj_check_227, CR_0 h (i := 69) (by unfold kD; omega), CR_0 h (i := 82) (by unfold kD; omega), e69, if_neg (show ¬ nI j < nI n by rw [nlt_ (by omega) (by omega)]; omega)]
    simp only [List.range'_zero, List.any_nil, Bool.or_false]
    have flt := k_fault (d := d) (K := fun s2 => some (none, s2)) (k := 7) (p := 0) (r := some (ts, es, sv, fa_ 7 0 q)) h (fun s1 h1 => k_ok h1)
    by_cases c : q 0 82 < 0
    · rw [if_pos c, if_pos (Or.inl c)]; exact flt
    rw [if_neg c]
    cases b with
    | false =>
      rw [if_pos (show zb_ false = 0 from rfl), if_neg (by simp [c])]
      exact k_ok h
    | true =>
      rw [if_neg (show ¬ zb_ true = 0 by decide), if_pos (Or.inr rfl)]
      exact flt
  | m + 1, j, b, hj => by
    have ih := c_end_227 (d := d) h hn e69 m (j + 1)
    rw [mj_check_227, CR_0 h (i := 69) (by unfold kD; omega), e69, if_pos (show nI j < nI n by rw [nlt_ (by omega) (by omega)]; omega)]
    rw [List.range'_succ, List.any_cons]
    rw [show (nI j + 1 : Int32) = nI (j + 1) from nI_1 _]
    cases b with
    | true =>
      rw [if_neg (show ¬ zb_ true = 0 by decide)]
      have := ih true (by omega)
      simp only [Bool.true_or] at this ⊢
      exact this
    | false =>
      rw [if_pos (show zb_ false = 0 from rfl), mm_a_n (by omega) (by decide), Option.bind_some, h.2.1 70 j (by unfold kD; omega)]
      by_cases c : 32000 < q 70 j
      · rw [if_pos c]
        have := ih true (by omega)
        simp only [Bool.true_or, Bool.false_or, decide_eq_true c] at this ⊢
        exact this
      · rw [if_neg c]
        have := ih false (by omega)
        simp only [Bool.false_or, decide_eq_false c] at this ⊢
        exact this
theorem c_end {d : Nat} (h : CR z s ([], es, sv, q)) : kq_ z ((ckE q).bind fun q1 => some ([], es, sv, q1)) (mJ (d + 2) 69 140 [vr_ (some 0)] [] s) := by
  have e63 : s 0 63 = nI 0 := h.2.2.1.1
  rw [mj_check_140, e63, if_neg (by decide), CR_0 h (i := 12) (by unfold kD; omega), CR_0 h (i := 81) (by unfold kD; omega), CR_0 h (i := 69) (by unfold kD; omega)]
  unfold ckE
  by_cases c12 : q 0 12 = 0
  · rw [if_pos c12, if_pos c12]
    by_cases cb : q 0 69 < 0 ∨ 3100 < q 0 69
    · rw [if_pos cb]; exact k_none
    rw [if_neg cb]
    obtain ⟨n, hn, e69⟩ := nI_of (x := q 0 69) (fun e => cb (Or.inl e))
    have hn2 : n ≤ 3100 := by
      have : ¬ 3100 < q 0 69 := fun e => cb (Or.inr e)
      rw [e69, nlt2_ 3100 hn (by decide)] at this
      omega
    have go : ∀ b : Bool, b = (decide (1600 < q 0 81) || decide (200 < q 0 69)) → kq_ z ((if q 0 82 < 0 ∨ lgk q = true then some (fa_ 7 0 q) else some q).bind fun q1 => some ([], es, sv, q1)) (mJ (d + 2) 69 227 [vr_ (some 0), vi_ (zb_ b), vi_ 0] [] s) := by
      intro b hb
      have := c_end_227 (d := d) h hn2 e69 n 0 b (by omega)
      have e : lgk q = (b || (List.range' 0 n).any fun r => decide (32000 < q 70 r)) := by
        unfold lgk
        rw [e69, nI_clamp hn, List.range_eq_range', hb, e69]
      rw [e]
      by_cases c : q 0 82 < 0 ∨ (b || (List.range' 0 n).any fun r => decide (32000 < q 70 r)) = true
      · rw [if_pos c] at this ⊢; exact this
      · rw [if_neg c] at this ⊢; exact this
    by_cases c1 : 1600 < q 0 81
    · rw [if_pos c1]; exact go true (by simp [c1])
    rw [if_neg c1]
    by_cases c2 : 200 < q 0 69
    · rw [if_pos c2]; exact go true (by simp [c2])
    rw [if_neg c2]
    exact go false (by simp [c1, c2])
  · rw [if_neg c12, if_neg c12]
    exact k_ok h
theorem c_all {d : Nat} : ∀ (n : Nat) (ts : List ctk) (es : List enT) (sv : List Int32) (q s : mm_S) (σ : ct_t), CR z s (ts, es, sv, q) → pj_fx (ckF z) n (ts, es, sv, q) = some σ → kq_ z ((ckE σ.2.2.2).bind fun q1 => some ([], σ.2.1, σ.2.2.1, q1)) (mJ (d + 7) 69 140 [vr_ (some 0)] [] s)
  | 0, _, _, _, _, _, _, _, e => nomatch e
  | n + 1, [], es, sv, q, s, σ, h, e => by
    cases e
    exact c_end (d := d + 5) h
  | n + 1, x :: ts, es, sv, q, s, σ, h, e => by
    have e : (go_k z x ts es sv q).bind (pj_fx (ckF z) n) = some σ := e
    have e63 : s 0 63 = nI (ts.length + 1) := h.2.2.1.1
    have hl : ts.length < 26000 := by have := h.2.2.2.2.2.2.1; simp at this; omega
    obtain ⟨⟨⟨t1, t2, t3⟩, hx, ht⟩, hT⟩ := h.2.2.2.1
    rw [mj_check_140, e63, if_pos (by rw [nlt2_ 0 (by omega) (by decide)]; omega), show (nI (ts.length + 1) - 1 : Int32) = nI ts.length from nI_pred _, mm_a_n hl (by decide), Option.bind_some, mm_a_n hl (by decide), Option.bind_some, mm_a_n hl (by decide), Option.bind_some, mu_n (by omega), mu_n (by omega), mu_n (by omega), t1, t2, t3]
    have h1 : CR z (mm_u s 0 63 (nI ts.length)) (ts, es, sv, q) := by
      obtain ⟨a, b, ⟨c1, c2, c3⟩, e, g', k', l1, l2, l3⟩ := h
      refine ⟨fun f i hz hd => ?_, fun f i hq => ?_, ⟨mu_s, (mu_n (by omega)).trans c2, (mu_n (by omega)).trans c3⟩, KT_fr (fun f j _ _ _ => mu_n (by omega)) hT, KE_fr (fun f j _ _ _ => mu_n (by omega)) g', KV_fr (fun j _ => mu_n (by omega)) k', by omega, l2, l3⟩
      · rw [mu_n (by unfold kS at hz; omega)]; exact a f i hz hd
      · rw [mu_n (by unfold kD at hq; omega)]; exact b f i hq
    have hg := c_go (z := z) d x h1 ht hx
    cases hr : go_k z x ts es sv q with
    | none => rw [hr] at e; exact nomatch e
    | some σ1 =>
      rw [hr] at e hg
      obtain ⟨s2, e2, h2⟩ := hg
      rw [e2, bV_k]
      obtain ⟨ts1, es1, sv1, q1⟩ := σ1
      exact c_all n ts1 es1 sv1 q1 s2 σ h2 e
end CRend
/-! the library's names, START -/
def lh_ (x : List Int32) : List (List Int32) → Nat → Int32 → Int32
  | [], _, h => h
  | y :: r, n, h => lh_ x r (n + 1) (if y = x then nI n else h)
def lib1 (L : List (List Int32)) (es : List enT) (x : List Int32) (k : Nat) : List enT := if lh_ x L 0 (-1) < 0 then es else (lh_ x L 0 (-1), 6, 2000000 + nI k, 0, 0, 0) :: es
def lbx : List (Int64 × Int64 × Nat) := [(96010929194318, 0, 0), (96010929194323, 0, 1), (1465008968, 0, 2), (22031289427775045, 0, 3), (1380205384, 0, 4), (1398034256, 0, 5), (4276819, 0, 6), (93794876015432, 0, 7), (6000285938907105614, 5264724, 8), (6000285938907107157, 1414550868, 9), (90457770643012, 0, 10), (78363093255491, 0, 11), (19793705839248707, 0, 12), (18384196524721475, 0, 13), (85028747102550, 0, 14), (96010929194308, 0, 15), (6292172255678448984, 0, 16), (353349223502, 0, 17)]
def lbs (L : List (List Int32)) : List (Int64 × Int64 × Nat) → List enT → List enT
  | [], es => es
  | x :: r, es => lbs L r (lib1 L es (kb_ x.1 x.2.1 16) x.2.2)
def LB (s0 s : mm_S) (es : List enT) : Prop := (∀ f i, ¬ (50 ≤ f ∧ f ≤ 54) → ¬ (f = 0 ∧ i = 49) → s f i = s0 f i) ∧ s 0 49 = nI es.length ∧ KE s es
theorem m_lib_6 {d : Nat} {s0 s : mm_S} {L : List (List Int32)} {es : List enT} {a b : Int64} {k : Int32} (hL : mNm s0 L) (hl : L.length < 3100) (h : LB s0 s es) : ∀ (r : List (List Int32)) (n : Nat) (hit : Int32), (∃ pre, L = pre ++ r ∧ pre.length = n) → mJ (d + 2) 68 6 [vr_ (some 0), vl_ a, vl_ b, vi_ k, vi_ hit, vi_ (nI n)] [] s = (if lh_ (kb_ a b 16) r n hit < 0 then some (none, s) else mm_bI (mE (d + 1) 48 [vr_ (some 0), vi_ (lh_ (kb_ a b 16) r n hit), vi_ 6, vi_ (2000000 + k), vi_ 0, vi_ 0] s) fun _ s5 => some (none, s5))
  | [], n, hit, ⟨pre, hp, hn⟩ => by
    have e : L.length = n := by rw [hp]; simpa using hn
    rw [mj_lib_6, h.1 0 5 (by omega) (by omega), hL.1, e, if_neg (by rw [nlt_ (by omega) (by omega)]; omega)]
    rfl
  | y :: r, n, hit, ⟨pre, hp, hn⟩ => by
    have e : n < L.length := by rw [hp]; simp; omega
    have hy : L[n]? = some y := by rw [hp, List.getElem?_append_right (by omega), hn]; simp
    obtain ⟨at0, m, h6, h7, hb, hw⟩ := hL.2 n y hy
    rw [mj_lib_6, h.1 0 5 (by omega) (by omega), hL.1, if_pos (by rw [nlt_ (by omega) (by omega)]; exact e), mm_a_n (by omega) (by decide), Option.bind_some, mm_a_n (by omega) (by decide), Option.bind_some, h.1 6 n (by omega) (by omega), h.1 7 n (by omega) (by omega), h6, h7, m_isText d s a b at0 m hb, bI_k]
    have e3 : rw_ (s 3) at0 m = y := by rw [show s 3 = s0 3 from funext fun i => h.1 3 i (by omega) (by omega)]; exact hw
    rw [e3, nI_1]
    have ih := fun hit => m_lib_6 (d := d) (a := a) (b := b) (k := k) hL hl h r (n + 1) hit ⟨pre ++ [y], by rw [hp]; simp, by simp [hn]⟩
    unfold lh_
    by_cases c : y = kb_ a b 16
    · rw [if_pos c, decide_eq_true c, if_neg (show ¬ zb_ true = 0 by decide)]; exact ih _
    · rw [if_neg c, decide_eq_false c, if_pos (show zb_ false = 0 from rfl)]; exact ih _
theorem m_lib {d k : Nat} {s0 s : mm_S} {L : List (List Int32)} {es : List enT} {a b : Int64} (hL : mNm s0 L) (hl : L.length < 3100) (h : LB s0 s es) (he : es.length < 9000) : ∃ s1, mE (d + 2) 68 [vr_ (some 0), vl_ a, vl_ b, vi_ (nI k)] s = some (none, s1) ∧ LB s0 s1 (lib1 L es (kb_ a b 16) k) := by
  rw [me_lib]
  have e := m_lib_6 (d := d) (a := a) (b := b) (k := nI k) hL hl h L 0 (-1) ⟨[], rfl, rfl⟩
  have e' : mJ (d + 1 + 1) 68 6 [vr_ (some 0), vl_ a, vl_ b, vi_ (nI k), vi_ (-1), vi_ 0] [] s = _ := e
  rw [e']
  unfold lib1
  by_cases c : lh_ (kb_ a b 16) L 0 (-1) < 0
  · rw [if_pos c, if_pos c]
    exact ⟨s, rfl, h⟩
  rw [if_neg c, if_neg c]
  obtain ⟨ha, c2, g'⟩ := h
  generalize lh_ (kb_ a b 16) L 0 (-1) = nm
  rw [me_entry, c2, mm_w_n he (by decide), Option.bind_some]
  have f1 : mm_u s 50 es.length nm 0 49 = nI es.length := (mu_n (by omega)).trans c2
  rw [f1, mm_w_n he (by decide), Option.bind_some]
  have f2 : mm_u (mm_u s 50 es.length nm) 51 es.length 6 0 49 = nI es.length := (mu_n (by omega)).trans f1
  rw [f2, mm_w_n he (by decide), Option.bind_some]
  have f3 : mm_u (mm_u (mm_u s 50 es.length nm) 51 es.length 6) 52 es.length (2000000 + nI k) 0 49 = nI es.length := (mu_n (by omega)).trans f2
  rw [f3, mm_w_n he (by decide), Option.bind_some]
  have f4 : mm_u (mm_u (mm_u (mm_u s 50 es.length nm) 51 es.length 6) 52 es.length (2000000 + nI k)) 53 es.length 0 0 49 = nI es.length := (mu_n (by omega)).trans f3
  rw [f4, mm_w_n he (by decide), Option.bind_some]
  have f5 : mm_u (mm_u (mm_u (mm_u (mm_u s 50 es.length nm) 51 es.length 6) 52 es.length (2000000 + nI k)) 53 es.length 0) 54 es.length 0 0 49 = nI es.length := (mu_n (by omega)).trans f4
  rw [f5, nI_1, bI_k]
  have go : ∀ f j, ¬ (50 ≤ f ∧ f ≤ 54 ∧ j = es.length) → ¬ (f = 0 ∧ j = 49) → mm_u (mm_u (mm_u (mm_u (mm_u (mm_u s 50 es.length nm) 51 es.length 6) 52 es.length (2000000 + nI k)) 53 es.length 0) 54 es.length 0) 0 49 (nI (es.length + 1)) f j = s f j := fun f j h1 h2 => by
    rw [mu_n h2, mu_n (by omega), mu_n (by omega), mu_n (by omega), mu_n (by omega), mu_n (by omega)]
  refine ⟨_, rfl, fun f i h1 h2 => (go f i (by omega) h2).trans (ha f i h1 h2), mu_s, ⟨⟨?_, ?_, ?_, ?_, ?_, fun hx => absurd rfl hx⟩, KE_fr (fun f j _ h57 hj => go f j (by omega) (by omega)) g'⟩⟩
  · rw [mu_n (by omega), mu_n (by omega), mu_n (by omega), mu_n (by omega), mu_n (by omega), mu_s]
  · rw [mu_n (by omega), mu_n (by omega), mu_n (by omega), mu_n (by omega), mu_s]
  · rw [mu_n (by omega), mu_n (by omega), mu_n (by omega), mu_s]
  · rw [mu_n (by omega), mu_n (by omega), mu_s]
  · rw [mu_n (by omega), mu_s]
theorem lib1_len (L : List (List Int32)) (es : List enT) (x : List Int32) (k : Nat) : (lib1 L es x k).length ≤ es.length + 1 := by
  unfold lib1
  split
  · omega
  · simp
theorem lbs_len (L : List (List Int32)) : ∀ (xs : List (Int64 × Int64 × Nat)) (es : List enT), (lbs L xs es).length ≤ es.length + xs.length
  | [], es => by simp [lbs]
  | x :: xs, es => by
    have h1 := lbs_len L xs (lib1 L es (kb_ x.1 x.2.1 16) x.2.2)
    have h2 := lib1_len L es (kb_ x.1 x.2.1 16) x.2.2
    simp only [lbs, List.length_cons]
    omega
theorem lb_le (L : List (List Int32)) (xs : List (Int64 × Int64 × Nat)) (n : Nat) (hn : n ≤ 100 := by decide) : (lbs L (xs.take n) []).length < 9000 := by
  have := lbs_len L (xs.take n) []
  have h2 := List.length_take_le n xs
  simp only [List.length_nil] at this
  omega
theorem m_library {d : Nat} {s : mm_S} {L : List (List Int32)} (hL : mNm s L) (hl : L.length < 3100) : ∃ s1, mE (d + 3) 67 [vr_ (some 0)] s = some (none, s1) ∧ LB s s1 (lbs L lbx []) := by
  have h0 : LB s (mm_u s 0 49 0) [] := ⟨fun f i _ h => mu_n h, mu_s, trivial⟩
  rw [me_library]
  obtain ⟨t0, u0, g0⟩ := m_lib (d := d) (a := 96010929194318) (b := 0) (k := 0) hL hl h0 (by decide)
  have u0 : mE (d + 2) 68 [vr_ (some 0), vl_ 96010929194318, vl_ 0, vi_ 0] (mm_u s 0 49 0) = some (none, t0) := u0
  rw [u0, bV_k]
  obtain ⟨t1, u1, g1⟩ := m_lib (d := d) (a := 96010929194323) (b := 0) (k := 1) hL hl g0 (lb_le L lbx 1)
  have u1 : mE (d + 2) 68 [vr_ (some 0), vl_ 96010929194323, vl_ 0, vi_ 1] t0 = some (none, t1) := u1
  rw [u1, bV_k]
  obtain ⟨t2, u2, g2⟩ := m_lib (d := d) (a := 1465008968) (b := 0) (k := 2) hL hl g1 (lb_le L lbx 2)
  have u2 : mE (d + 2) 68 [vr_ (some 0), vl_ 1465008968, vl_ 0, vi_ 2] t1 = some (none, t2) := u2
  rw [u2, bV_k]
  obtain ⟨t3, u3, g3⟩ := m_lib (d := d) (a := 22031289427775045) (b := 0) (k := 3) hL hl g2 (lb_le L lbx 3)
  have u3 : mE (d + 2) 68 [vr_ (some 0), vl_ 22031289427775045, vl_ 0, vi_ 3] t2 = some (none, t3) := u3
  rw [u3, bV_k]
  obtain ⟨t4, u4, g4⟩ := m_lib (d := d) (a := 1380205384) (b := 0) (k := 4) hL hl g3 (lb_le L lbx 4)
  have u4 : mE (d + 2) 68 [vr_ (some 0), vl_ 1380205384, vl_ 0, vi_ 4] t3 = some (none, t4) := u4
  rw [u4, bV_k]
  obtain ⟨t5, u5, g5⟩ := m_lib (d := d) (a := 1398034256) (b := 0) (k := 5) hL hl g4 (lb_le L lbx 5)
  have u5 : mE (d + 2) 68 [vr_ (some 0), vl_ 1398034256, vl_ 0, vi_ 5] t4 = some (none, t5) := u5
  rw [u5, bV_k]
  obtain ⟨t6, u6, g6⟩ := m_lib (d := d) (a := 4276819) (b := 0) (k := 6) hL hl g5 (lb_le L lbx 6)
  have u6 : mE (d + 2) 68 [vr_ (some 0), vl_ 4276819, vl_ 0, vi_ 6] t5 = some (none, t6) := u6
  rw [u6, bV_k]
  obtain ⟨t7, u7, g7⟩ := m_lib (d := d) (a := 93794876015432) (b := 0) (k := 7) hL hl g6 (lb_le L lbx 7)
  have u7 : mE (d + 2) 68 [vr_ (some 0), vl_ 93794876015432, vl_ 0, vi_ 7] t6 = some (none, t7) := u7
  rw [u7, bV_k]
  obtain ⟨t8, u8, g8⟩ := m_lib (d := d) (a := 6000285938907105614) (b := 5264724) (k := 8) hL hl g7 (lb_le L lbx 8)
  have u8 : mE (d + 2) 68 [vr_ (some 0), vl_ 6000285938907105614, vl_ 5264724, vi_ 8] t7 = some (none, t8) := u8
  rw [u8, bV_k]
  obtain ⟨t9, u9, g9⟩ := m_lib (d := d) (a := 6000285938907107157) (b := 1414550868) (k := 9) hL hl g8 (lb_le L lbx 9)
  have u9 : mE (d + 2) 68 [vr_ (some 0), vl_ 6000285938907107157, vl_ 1414550868, vi_ 9] t8 = some (none, t9) := u9
  rw [u9, bV_k]
  obtain ⟨t10, u10, g10⟩ := m_lib (d := d) (a := 90457770643012) (b := 0) (k := 10) hL hl g9 (lb_le L lbx 10)
  have u10 : mE (d + 2) 68 [vr_ (some 0), vl_ 90457770643012, vl_ 0, vi_ 10] t9 = some (none, t10) := u10
  rw [u10, bV_k]
  obtain ⟨t11, u11, g11⟩ := m_lib (d := d) (a := 78363093255491) (b := 0) (k := 11) hL hl g10 (lb_le L lbx 11)
  have u11 : mE (d + 2) 68 [vr_ (some 0), vl_ 78363093255491, vl_ 0, vi_ 11] t10 = some (none, t11) := u11
  rw [u11, bV_k]
  obtain ⟨t12, u12, g12⟩ := m_lib (d := d) (a := 19793705839248707) (b := 0) (k := 12) hL hl g11 (lb_le L lbx 12)
  have u12 : mE (d + 2) 68 [vr_ (some 0), vl_ 19793705839248707, vl_ 0, vi_ 12] t11 = some (none, t12) := u12
  rw [u12, bV_k]
  obtain ⟨t13, u13, g13⟩ := m_lib (d := d) (a := 18384196524721475) (b := 0) (k := 13) hL hl g12 (lb_le L lbx 13)
  have u13 : mE (d + 2) 68 [vr_ (some 0), vl_ 18384196524721475, vl_ 0, vi_ 13] t12 = some (none, t13) := u13
  rw [u13, bV_k]
  obtain ⟨t14, u14, g14⟩ := m_lib (d := d) (a := 85028747102550) (b := 0) (k := 14) hL hl g13 (lb_le L lbx 14)
  have u14 : mE (d + 2) 68 [vr_ (some 0), vl_ 85028747102550, vl_ 0, vi_ 14] t13 = some (none, t14) := u14
  rw [u14, bV_k]
  obtain ⟨t15, u15, g15⟩ := m_lib (d := d) (a := 96010929194308) (b := 0) (k := 15) hL hl g14 (lb_le L lbx 15)
  have u15 : mE (d + 2) 68 [vr_ (some 0), vl_ 96010929194308, vl_ 0, vi_ 15] t14 = some (none, t15) := u15
  rw [u15, bV_k]
  obtain ⟨t16, u16, g16⟩ := m_lib (d := d) (a := 6292172255678448984) (b := 0) (k := 16) hL hl g15 (lb_le L lbx 16)
  have u16 : mE (d + 2) 68 [vr_ (some 0), vl_ 6292172255678448984, vl_ 0, vi_ 16] t15 = some (none, t16) := u16
  rw [u16, bV_k]
  obtain ⟨t17, u17, g17⟩ := m_lib (d := d) (a := 353349223502) (b := 0) (k := 17) hL hl g16 (lb_le L lbx 17)
  have u17 : mE (d + 2) 68 [vr_ (some 0), vl_ 353349223502, vl_ 0, vi_ 17] t16 = some (none, t17) := u17
  rw [u17, bV_k]
  exact ⟨_, rfl, g17⟩
theorem m_start_84 {d : Nat} {s0 : mm_S} {L : List (List Int32)} {x1 : Int32} (hL : mNm s0 L) (hl : L.length < 3100) : ∀ (r : List (List Int32)) (n : Nat) (s : mm_S), (∀ f i, (f = 0 ∧ i = 5) ∨ f = 6 ∨ f = 7 ∨ f = 3 → s f i = s0 f i) → (∃ pre, L = pre ++ r ∧ pre.length = n) → ∃ s', mJ (d + 2) 69 84 [vr_ (some 0), vi_ x1, vi_ (nI n)] [] s = (mm_bV (mE (d + 1) 65 [vr_ (some 0), vi_ x1, vi_ 1] (mm_u s' 0 55 (s' 0 49))) fun s5 => mJ (d + 2) 69 140 [vr_ (some 0)] [] s5) ∧ s' 0 83 = lh_ (kb_ 357895852628 0 16) r n (s 0 83) ∧ ∀ f i, ¬ (f = 0 ∧ i = 83) → s' f i = s f i
  | [], n, s, hs, ⟨pre, hp, hn⟩ => by
    have e : L.length = n := by rw [hp]; simpa using hn
    rw [mj_check_84, hs 0 5 (by omega), hL.1, e, if_neg (by rw [nlt_ (by omega) (by omega)]; omega)]
    exact ⟨s, rfl, rfl, fun _ _ _ => rfl⟩
  | y :: r, n, s, hs, ⟨pre, hp, hn⟩ => by
    have e : n < L.length := by rw [hp]; simp; omega
    have hy : L[n]? = some y := by rw [hp, List.getElem?_append_right (by omega), hn]; simp
    obtain ⟨at0, m, h6, h7, hb, hw⟩ := hL.2 n y hy
    rw [mj_check_84, hs 0 5 (by omega), hL.1, if_pos (by rw [nlt_ (by omega) (by omega)]; exact e), mm_a_n (by omega) (by decide), Option.bind_some, mm_a_n (by omega) (by decide), Option.bind_some, hs 6 n (by omega), hs 7 n (by omega), h6, h7, m_isText d s 357895852628 0 at0 m hb, bI_k]
    have e3 : rw_ (s 3) at0 m = y := by rw [show s 3 = s0 3 from funext fun i => hs 3 i (by omega)]; exact hw
    rw [e3, nI_1]
    unfold lh_
    by_cases c : y = kb_ 357895852628 0 16
    · rw [if_pos c, decide_eq_true c, if_neg (show ¬ zb_ true = 0 by decide)]
      obtain ⟨s', a1, a2, a3⟩ := m_start_84 (d := d) (x1 := x1) hL hl r (n + 1) (mm_u s 0 83 (nI n)) (fun f i h => by rw [mu_n (by omega)]; exact hs f i h) ⟨pre ++ [y], by rw [hp]; simp, by simp [hn]⟩
      refine ⟨s', a1, ?_, fun f i h => (a3 f i h).trans (mu_n h)⟩
      rw [mu_s] at a2
      exact a2
    · rw [if_neg c, decide_eq_false c, if_pos (show zb_ false = 0 from rfl)]
      exact m_start_84 (d := d) (x1 := x1) hL hl r (n + 1) s hs ⟨pre ++ [y], by rw [hp]; simp, by simp [hn]⟩
/-- the checker's rows at first -/
def cq0 (s : mm_S) (sn : Int32) (nb : Nat) : mm_S := fun f i => if f = 0 then (if i = 55 then nI nb else if i = 83 then sn else if i = 82 then -1 else if i = 84 then 0 else if i = 81 then 100 else if i = 80 then 0 else if i = 79 then 0 else if i = 78 then 0 else if i = 77 then 0 else if i = 75 then 0 else if i = 74 then 0 else if i = 73 then -1 else if i = 69 then 0 else s 0 i) else s f i
theorem m_check (d : Nat) {s : mm_S} {L : List (List Int32)} {i : Nat} {v} {l : tr_} {σ : ct_t} {q' : mm_S} (hL : mNm s L) (hl : L.length < 3100) (h24 : s 0 24 = nI (i + 1)) (ht : Rc s (.inner 60 i v l .leaf)) (hc : (chs 1 l).length ≤ 26000) (hr : ckR s (chs 1 l, lbs L lbx [], [], cq0 s (lh_ (kb_ 357895852628 0 16) L 0 (-1)) (lbs L lbx []).length) = some σ) (he : ckE σ.2.2.2 = some q') : ∃ s', mE (d + 8) 69 [vr_ (some 0)] s = some (none, s') ∧ CR s s' ([], σ.2.1, σ.2.2.1, q') := by
  have hi := Rc_i ht
  obtain ⟨s1, e1, g1⟩ := m_library (d := d + 4) hL hl
  have e1 : mE (d + 7) 67 [vr_ (some 0)] s = _ := e1
  rw [me_check, e1, bV_k, h24, show (nI (i + 1) - 1 : Int32) = nI i from nI_pred _]
  generalize hs2 : mm_u (mm_u (mm_u (mm_u (mm_u (mm_u (mm_u (mm_u (mm_u (mm_u (mm_u (mm_u (mm_u (mm_u s1 0 63 0) 0 67 0) 0 69 0) 0 73 (-1)) 0 74 0) 0 75 0) 0 77 0) 0 78 0) 0 79 0) 0 80 0) 0 81 100) 0 84 0) 0 82 (-1)) 0 83 (-1) = s2
  have f2 : ∀ f i, f ≠ 0 → s2 f i = s1 f i := fun f i hf => by
    subst hs2
    rw [mu_n (by omega), mu_n (by omega), mu_n (by omega), mu_n (by omega), mu_n (by omega), mu_n (by omega), mu_n (by omega), mu_n (by omega), mu_n (by omega), mu_n (by omega), mu_n (by omega), mu_n (by omega), mu_n (by omega), mu_n (by omega)]
  have f0 : ∀ i, s2 0 i = if i = 83 then -1 else if i = 82 then -1 else if i = 84 then 0 else if i = 81 then 100 else if i = 80 then 0 else if i = 79 then 0 else if i = 78 then 0 else if i = 77 then 0 else if i = 75 then 0 else if i = 74 then 0 else if i = 73 then -1 else if i = 69 then 0 else if i = 67 then 0 else if i = 63 then 0 else s1 0 i := fun i => by
    subst hs2
    simp only [mm_u, if_true]
  obtain ⟨s3, e3, a3, b3⟩ := m_start_84 (d := d + 6) (x1 := nI i) hL hl L 0 s2 (fun f i h => by
    rcases h with ⟨rfl, rfl⟩ | h
    · rw [f0]; exact g1.1 0 5 (by omega) (by omega)
    · rw [f2 f i (by omega)]; exact g1.1 f i (by omega) (by omega)) ⟨[], rfl, rfl⟩
  have e3 : mJ (d + 7 + 1) 69 84 [vr_ (some 0), vi_ (nI i), vi_ 0] [] s2 = _ := e3
  rw [e3]
  have es18 : (lbs L lbx []).length ≤ 9000 := by
    have := lbs_len L lbx []
    have e18 : lbx.length = 18 := rfl
    simp only [List.length_nil] at this
    omega
  have s49 : s3 0 49 = nI (lbs L lbx []).length := by rw [b3 0 49 (by omega), f0]; exact g1.2.1
  have a83 : s2 0 83 = -1 := by rw [f0]; rfl
  rw [a83] at a3
  have hCR : CR s (mm_u s3 0 55 (s3 0 49)) ([], lbs L lbx [], [], cq0 s (lh_ (kb_ 357895852628 0 16) L 0 (-1)) (lbs L lbx []).length) := by
    refine ⟨fun f j hz hd => ?_, fun f j hq => ?_, ⟨?_, ?_, ?_⟩, trivial, KE_fr (fun f j h1 h2 _ => ?_) g1.2.2, trivial, by simp, es18, by simp⟩
    · rw [mu_n (by unfold kD at hd; omega), b3 f j (by unfold kD at hd; omega)]
      by_cases hf : f = 0
      · subst hf
        unfold kS at hz
        unfold kD at hd
        rw [f0, if_neg (by omega), if_neg (by omega), if_neg (by omega), if_neg (by omega), if_neg (by omega), if_neg (by omega), if_neg (by omega), if_neg (by omega), if_neg (by omega), if_neg (by omega), if_neg (by omega), if_neg (by omega), if_neg (by omega), if_neg (by omega)]
        exact g1.1 0 j (by omega) (by omega)
      · rw [f2 f j hf]
        exact g1.1 f j (by unfold kS at hz; omega) (by omega)
    · by_cases hf : f = 0
      · subst hf
        unfold cq0
        rw [if_pos rfl]
        by_cases h55 : j = 55
        · subst h55
          rw [mu_s, if_pos rfl, s49]
        rw [mu_n (by omega), if_neg h55]
        by_cases h83 : j = 83
        · subst h83
          rw [if_pos rfl, a3]
        rw [if_neg h83, b3 0 j (by omega), f0, if_neg h83]
        unfold kD at hq
        have e67 : j ≠ 67 ∧ j ≠ 63 ∧ j ≠ 49 := by omega
        rw [if_neg e67.1, if_neg e67.2.1, g1.1 0 j (by omega) (by omega)]
      · unfold cq0
        rw [if_neg hf, mu_n (by omega), b3 f j (by omega), f2 f j hf]
        unfold kD at hq
        exact g1.1 f j (by omega) (by omega)
    · rw [mu_n (by omega), b3 0 63 (by omega), f0]; rfl
    · rw [mu_n (by omega), s49]
    · rw [mu_n (by omega), b3 0 67 (by omega), f0]; rfl
    · rw [mu_n (by omega), b3 f j (by omega), f2 f j (by omega)]
  obtain ⟨n, hn⟩ := (pj_lfp_iff (ckF_mono s) _ _).mp hr
  have fin : kq_ s (some ([], σ.2.1, σ.2.2.1, q')) (mm_bV (mE (d + 7) 65 [vr_ (some 0), vi_ (nI i), vi_ (nI 1)] (mm_u s3 0 55 (s3 0 49))) fun s5 => mJ (d + 8) 69 140 [vr_ (some 0)] [] s5) := by
    refine k_children (d := d + 5) (g := 1) (by omega) hCR ht (by simpa using hc) (fun s5 h5 => ?_)
    have := c_all (d := d + 1) n _ _ _ _ s5 σ h5 (by simpa using hn)
    rw [he] at this
    exact this
  obtain ⟨s', e', h'⟩ := fin
  exact ⟨s', e', h'⟩
