/-! ===== the checker's walks: nodes, entries, children ===== -/
section CRwalk
variable {z s q : mm_S} {ts : List ctk} {es : List enT} {sv : List Int32} {r : Option ct_t}
theorem Rc_k {k i : Nat} {v} {l nx : tr_} (h : CR z s (ts, es, sv, q)) (ht : Rc z (.inner k i v l nx)) : mm_a 26000 25 (nI i) s = some (nI k) := by
  rw [mm_a_n ht.1.1 (by decide), CR_z h (by unfold kS; omega) (by unfold kD; omega), ht.2.1.1]
theorem Rc_t {k i : Nat} {v} {l nx : tr_} (h : CR z s (ts, es, sv, q)) (ht : Rc z (.inner k i v l nx)) : mm_a 26000 26 (nI i) s = some (nI v.1) := by
  rw [mm_a_n ht.1.1 (by decide), CR_z h (by unfold kS; omega) (by unfold kD; omega), ht.2.1.2.1]
theorem Rc_c {k i : Nat} {v} {l nx : tr_} (h : CR z s (ts, es, sv, q)) (ht : Rc z (.inner k i v l nx)) : mm_a 26000 27 (nI i) s = some (rt_ l) := by
  rw [mm_a_n ht.1.1 (by decide), CR_z h (by unfold kS; omega) (by unfold kD; omega), ht.2.1.2.2.1]
theorem Rc_n {k i : Nat} {v} {l nx : tr_} (h : CR z s (ts, es, sv, q)) (ht : Rc z (.inner k i v l nx)) : mm_a 26000 28 (nI i) s = some (rt_ nx) := by
  rw [mm_a_n ht.1.1 (by decide), CR_z h (by unfold kS; omega) (by unfold kD; omega), ht.2.1.2.2.2.1]
theorem Rc_f {k i : Nat} {v} {l nx : tr_} (h : CR z s (ts, es, sv, q)) (ht : Rc z (.inner k i v l nx)) : mm_a 26000 34 (nI i) s = some (nI v.2.2.2.1) := by
  rw [mm_a_n ht.1.1 (by decide), CR_z h (by unfold kS; omega) (by unfold kD; omega), ht.2.1.2.2.2.2.1]
theorem Rc_q {f k i : Nat} {v} {l nx : tr_} (h : CR z s (ts, es, sv, q)) (ht : Rc z (.inner k i v l nx)) (h1 : 29 ≤ f) (h2 : f ≤ 31) : mm_a 26000 f (nI i) s = some (q f i) := by
  rw [mm_a_n ht.1.1 (by decide), h.2.1 _ _ (by unfold kD; omega)]
theorem Rc_l {k i : Nat} {v} {l nx : tr_} (ht : Rc z (.inner k i v l nx)) : Rc z l := ht.2.2.1
theorem Rc_r {k i : Nat} {v} {l nx : tr_} (ht : Rc z (.inner k i v l nx)) : Rc z nx := ht.2.2.2
theorem Rc_i {k i : Nat} {v} {l nx : tr_} (ht : Rc z (.inner k i v l nx)) : rt_ (.inner k i v l nx) = nI i ∧ ¬ (nI i < 0) ∧ k < 100 ∧ i < 26000 := ⟨rfl, by rw [nlt1_ 0 (by have := ht.1.1; omega) (by decide)]; omega, ht.1.2, ht.1.1⟩
theorem CR_0 {i : Nat} (h : CR z s (ts, es, sv, q)) (hi : kD 0 i) : s 0 i = q 0 i := h.2.1 0 i hi
theorem k_wn {f k i : Nat} {v} {l nx : tr_} {x : Int32} {K : mm_S → mm_O} (h : CR z s (ts, es, sv, q)) (ht : Rc z (.inner k i v l nx)) (h1 : 29 ≤ f) (h2 : f ≤ 31) (hk : ∀ s1, CR z s1 (ts, es, sv, mm_u q f i x) → kq_ z r (K s1)) : kq_ z r ((mm_w 26000 f (nI i) x s).bind K) := by
  rw [mm_w_n ht.1.1 (by decide), Option.bind_some]
  exact hk _ (CR_q h x (by unfold kD; omega))
theorem bVI_as (o : mm_O) (f : Int32 → mm_S → mm_O) (K : mm_S → mm_O) : mm_bV (mm_bI o f) K = mm_bI o fun v s => mm_bV (f v s) K := by
  unfold mm_bI
  cases o with
  | none => rfl
  | some x =>
    obtain ⟨a, b⟩ := x
    match a with
    | none => rfl
    | some (.inl v) => rfl
    | some (.inr v) => rfl
theorem bb_as (o : Option mm_S) (g K : mm_S → mm_O) : mm_bV (o.bind g) K = o.bind fun s => mm_bV (g s) K := by cases o <;> rfl
theorem ba_as {α : Type} (o : Option α) (g : α → mm_O) (K : mm_S → mm_O) : mm_bV (o.bind g) K = o.bind fun s => mm_bV (g s) K := by cases o <;> rfl
theorem bi_as {α : Type} (o : Option α) (g : α → mm_O) (K : Int32 → mm_S → mm_O) : mm_bI (o.bind g) K = o.bind fun s => mm_bI (g s) K := by cases o <;> rfl
theorem bV_k (s : mm_S) (K : mm_S → mm_O) : mm_bV (some (none, s)) K = K s := rfl
theorem k_ret {o : mm_O} (h : kq_ z r o) : kq_ z r (mm_bV o fun s1 => some (none, s1)) := by
  unfold kq_ at h ⊢
  split
  · trivial
  · obtain ⟨s', rfl, h⟩ := h; exact ⟨s', rfl, h⟩
theorem k_tks {xs : List ctk} {o : mm_O} (h : xs.length + ts.length ≤ 26000 → kq_ z (some (xs ++ ts, es, sv, q)) o) : kq_ z (tks xs ts es sv q) o := by
  unfold tks
  by_cases hl : xs.length + ts.length ≤ 26000
  · rw [if_pos hl]; exact h hl
  · rw [if_neg hl]; exact k_none
theorem k_pus {xs sv : List Int32} {f : List Int32 → Option ct_t} {o : mm_O} (h : xs.length + sv.length ≤ 60000 → kq_ z (f (xs.reverse ++ sv)) o) : kq_ z (pus xs sv f) o := by
  unfold pus
  by_cases hl : xs.length + sv.length ≤ 60000
  · rw [if_pos hl]; exact h hl
  · rw [if_neg hl]; exact k_none
theorem k_a {n f : Nat} {x : Int32} {F : Int32 → Option ct_t} {K : Int32 → mm_O} {w : mm_S} (hk : ∀ v, kq_ z (F v) (K v)) : kq_ z ((mm_a n f x w).bind F) ((mm_a n f x w).bind K) := by
  cases mm_a n f x w with
  | none => exact k_none
  | some v => exact hk v
theorem k_ob {α : Type} {x : Option α} {F : α → Option ct_t} {o : mm_O} (hk : ∀ v, x = some v → kq_ z (F v) o) : kq_ z (x.bind F) o := by
  cases x with
  | none => exact k_none
  | some v => exact hk v rfl
theorem c_children_13 {d g : Nat} {K : mm_S → mm_O} (hg : g < 9) : ∀ (t : tr_) (acc : List ctk) (s : mm_S), CR z s (acc ++ ts, es, sv, q) → Rc z t → (chs g t).length + (acc ++ ts).length ≤ 26000 → (∀ s1, CR z s1 (acc.reverse ++ chs g t ++ ts, es, sv, q) → kq_ z r (K s1)) → kq_ z r (mm_bV (mJ (d + 2) 65 13 [vr_ (some 0), vi_ (nI g), vi_ (nI ts.length), vi_ (rt_ t)] [] s) K)
  | .leaf, acc, s, h, _, _, hk => by
    rw [show rt_ (.leaf : tr_) = -1 from rfl, mj_children_13, if_pos (by decide), bV_as]
    exact k_turn h rfl (fun s1 h1 => hk s1 (by simpa [chs, fs_] using h1))
  | .inner k i v l nx, acc, s, h, ht, hl, hk => by
    have hi := Rc_i ht
    have hl' : (chs g (.inner k i v l nx)).length = (chs g nx).length + 1 := by simp [chs, fs_]
    rw [hi.1, mj_children_13, if_neg hi.2.1, bV_as]
    refine k_task g (.inner k i v l nx) h (by omega) rfl (by rw [if_neg (by omega)]; rfl) (by omega) ht (fun s1 h1 => ?_)
    rw [Rc_n h1 ht, Option.bind_some]
    refine c_children_13 hg nx ((g, .inner k i v l nx, 0) :: acc) s1 h1 (Rc_r ht) (by simp only [List.cons_append, List.length_cons]; omega) (fun s2 h2 => hk s2 ?_)
    simpa [chs, fs_] using h2
theorem k_children {d g k i : Nat} {v} {l nx : tr_} {K : mm_S → mm_O} (hg : g < 9) (h : CR z s (ts, es, sv, q)) (ht : Rc z (.inner k i v l nx)) (hl : (chs g l).length + ts.length ≤ 26000) (hk : ∀ s1, CR z s1 (chs g l ++ ts, es, sv, q) → kq_ z r (K s1)) : kq_ z r (mm_bV (mE (d + 2) 65 [vr_ (some 0), vi_ (nI i), vi_ (nI g)] s) K) := by
  rw [me_children, Rc_c h ht, Option.bind_some, h.2.2.1.1]
  exact c_children_13 hg l [] s h (Rc_l ht) hl (fun s1 h1 => hk s1 h1)
/-! entries change -/
theorem eu_len (j : Nat) (f : enT → enT) : ∀ es : List enT, (eu_ j f es).length = es.length
  | [] => rfl
  | e :: r => by
    unfold eu_
    split
    · rfl
    · simp [eu_len j f r]
theorem eu_c (j : Nat) (f : enT → enT) (e : enT) (r : List enT) : eu_ j f (e :: r) = if r.length = j then f e :: r else e :: eu_ j f r := rfl
theorem eu_eu (j : Nat) (f g : enT → enT) : ∀ es : List enT, eu_ j g (eu_ j f es) = eu_ j (fun e => g (f e)) es
  | [] => rfl
  | e :: r => by
    rw [eu_c, eu_c]
    by_cases h : r.length = j
    · rw [if_pos h, if_pos h, eu_c, if_pos h]
    · rw [if_neg h, if_neg h, eu_c, eu_len, if_neg h, eu_eu j f g r]
theorem KE_e2 {s : mm_S} {j : Nat} {x : Int32} : ∀ {es : List enT}, KE s es → KE (mm_u s 52 j x) (eu_ j (fun e => (e.1, e.2.1, x, e.2.2.2)) es)
  | [], _ => trivial
  | e :: r, h => by
    obtain ⟨⟨a1, a2, a3, a4, a5, a6⟩, h⟩ := h
    unfold eu_
    by_cases c : r.length = j
    · rw [if_pos c]
      subst c
      exact ⟨⟨(mu_n (by omega)).trans a1, (mu_n (by omega)).trans a2, mu_s, (mu_n (by omega)).trans a4, (mu_n (by omega)).trans a5, fun hx => (mu_n (by omega)).trans (a6 hx)⟩, KE_fr (fun f i _ _ hi => mu_n (by omega)) h⟩
    · rw [if_neg c]
      refine ⟨?_, KE_e2 h⟩
      rw [eu_len]
      exact ⟨(mu_n (by omega)).trans a1, (mu_n (by omega)).trans a2, (mu_n (by omega)).trans a3, (mu_n (by omega)).trans a4, (mu_n (by omega)).trans a5, fun hx => (mu_n (by omega)).trans (a6 hx)⟩
theorem KE_e3 {s : mm_S} {j : Nat} {x : Int32} : ∀ {es : List enT}, KE s es → KE (mm_u s 53 j x) (eu_ j (fun e => (e.1, e.2.1, e.2.2.1, x, e.2.2.2.2)) es)
  | [], _ => trivial
  | e :: r, h => by
    obtain ⟨⟨a1, a2, a3, a4, a5, a6⟩, h⟩ := h
    unfold eu_
    by_cases c : r.length = j
    · rw [if_pos c]
      subst c
      exact ⟨⟨(mu_n (by omega)).trans a1, (mu_n (by omega)).trans a2, (mu_n (by omega)).trans a3, mu_s, (mu_n (by omega)).trans a5, fun hx => (mu_n (by omega)).trans (a6 hx)⟩, KE_fr (fun f i _ _ hi => mu_n (by omega)) h⟩
    · rw [if_neg c]
      refine ⟨?_, KE_e3 h⟩
      rw [eu_len]
      exact ⟨(mu_n (by omega)).trans a1, (mu_n (by omega)).trans a2, (mu_n (by omega)).trans a3, (mu_n (by omega)).trans a4, (mu_n (by omega)).trans a5, fun hx => (mu_n (by omega)).trans (a6 hx)⟩
theorem KE_e4 {s : mm_S} {j : Nat} {x : Int32} : ∀ {es : List enT}, KE s es → KE (mm_u s 54 j x) (eu_ j (fun e => (e.1, e.2.1, e.2.2.1, e.2.2.2.1, x, e.2.2.2.2.2)) es)
  | [], _ => trivial
  | e :: r, h => by
    obtain ⟨⟨a1, a2, a3, a4, a5, a6⟩, h⟩ := h
    unfold eu_
    by_cases c : r.length = j
    · rw [if_pos c]
      subst c
      exact ⟨⟨(mu_n (by omega)).trans a1, (mu_n (by omega)).trans a2, (mu_n (by omega)).trans a3, (mu_n (by omega)).trans a4, mu_s, fun hx => (mu_n (by omega)).trans (a6 hx)⟩, KE_fr (fun f i _ _ hi => mu_n (by omega)) h⟩
    · rw [if_neg c]
      refine ⟨?_, KE_e4 h⟩
      rw [eu_len]
      exact ⟨(mu_n (by omega)).trans a1, (mu_n (by omega)).trans a2, (mu_n (by omega)).trans a3, (mu_n (by omega)).trans a4, (mu_n (by omega)).trans a5, fun hx => (mu_n (by omega)).trans (a6 hx)⟩
/-- a cell of the entries' rows changes -/
theorem CR_e {f j : Nat} {x : Int32} {es' : List enT} (h : CR z s (ts, es, sv, q)) (hf : 52 ≤ f ∧ f ≤ 54) (he : es'.length = es.length) (hK : KE (mm_u s f j x) es') : CR z (mm_u s f j x) (ts, es', sv, q) := by
  obtain ⟨a, b, ⟨c1, c2, c3⟩, e, g, k, l⟩ := h
  refine ⟨fun f' i' hz hd => ?_, fun f' i' hq => ?_, ⟨(mu_n (by omega)).trans c1, ?_, (mu_n (by omega)).trans c3⟩, KT_fr (fun f j x y _ => mu_n (by omega)) e, hK, KV_fr (fun j _ => mu_n (by omega)) k, l.1, by rw [he]; exact l.2.1, l.2.2⟩
  · rw [mu_n (by rintro ⟨rfl, rfl⟩; unfold kS at hz; omega)]
    exact a f' i' hz hd
  · rw [mu_n (by rintro ⟨rfl, rfl⟩; unfold kD at hq; omega)]
    exact b f' i' hq
  · rw [he]; exact (mu_n (by omega)).trans c2
theorem ei_s {x : Int32} {j : Nat} (h : ei_ es x = some j) : x = nI j ∧ j < es.length := by
  unfold ei_ at h
  split at h
  · rename_i hc
    cases h
    exact ⟨hc.1.symm, hc.2⟩
  · exact nomatch h
theorem k_e2 {j : Nat} {x : Int32} {K : mm_S → mm_O} (h : CR z s (ts, es, sv, q)) (hj : j < es.length) (hk : ∀ s1, CR z s1 (ts, eu_ j (fun e => (e.1, e.2.1, x, e.2.2.2)) es, sv, q) → kq_ z r (K s1)) : kq_ z r ((mm_w 9000 52 (nI j) x s).bind K) := by
  have hl := h.2.2.2.2.2.2.2.1
  rw [mm_w_n (by omega) (by decide), Option.bind_some]
  exact hk _ (CR_e h (by omega) (eu_len _ _ _) (KE_e2 h.2.2.2.2.1))
theorem k_e3 {j : Nat} {x : Int32} {K : mm_S → mm_O} (h : CR z s (ts, es, sv, q)) (hj : j < es.length) (hk : ∀ s1, CR z s1 (ts, eu_ j (fun e => (e.1, e.2.1, e.2.2.1, x, e.2.2.2.2)) es, sv, q) → kq_ z r (K s1)) : kq_ z r ((mm_w 9000 53 (nI j) x s).bind K) := by
  have hl := h.2.2.2.2.2.2.2.1
  rw [mm_w_n (by omega) (by decide), Option.bind_some]
  exact hk _ (CR_e h (by omega) (eu_len _ _ _) (KE_e3 h.2.2.2.2.1))
theorem k_e4 {j : Nat} {x : Int32} {K : mm_S → mm_O} (h : CR z s (ts, es, sv, q)) (hj : j < es.length) (hk : ∀ s1, CR z s1 (ts, eu_ j (fun e => (e.1, e.2.1, e.2.2.1, e.2.2.2.1, x, e.2.2.2.2.2)) es, sv, q) → kq_ z r (K s1)) : kq_ z r ((mm_w 9000 54 (nI j) x s).bind K) := by
  have hl := h.2.2.2.2.2.2.2.1
  rw [mm_w_n (by omega) (by decide), Option.bind_some]
  exact hk _ (CR_e h (by omega) (eu_len _ _ _) (KE_e4 h.2.2.2.2.1))
theorem k_name {d k i : Nat} {v} {l nx : tr_} {F : Int32 → Option ct_t} {K : Int32 → mm_S → mm_O} (h : CR z s (ts, es, sv, q)) (ht : Rc z (.inner k i v l nx)) (hk : ∀ nm, kq_ z (F nm) (K nm s)) : kq_ z ((mm_a 12100 11 (nI v.1) z).bind F) (mm_bI (mE (d + 1) 71 [vr_ (some 0), vi_ (nI i)] s) K) := by
  rw [me_nameToken, Rc_t h ht, Option.bind_some, mm_a_cz h (by intro i; unfold kS kD; omega)]
  cases mm_a 12100 11 (nI v.1) z with
  | none => exact k_none
  | some nm => exact hk nm
/-- a fault at a tree's token, at its first token -/
theorem k_ftt {d k i : Nat} {v} {l nx : tr_} {K : mm_S → mm_O} {c : Int32} {F : mm_S → Option ct_t} (h : CR z s (ts, es, sv, q)) (ht : Rc z (.inner k i v l nx)) (hk : ∀ s1 q1, CR z s1 (ts, es, sv, q1) → kq_ z (F q1) (K s1)) : kq_ z ((ft_ z c (nI v.1) q).bind F) ((mm_a 26000 26 (nI i) s).bind fun v4 => mm_bI (mE (d + 1) 46 [vr_ (some 0), vi_ v4] s) fun v s2 => mm_bV (mE (d + 1) 45 [vr_ (some 0), vi_ c, vi_ v] s2) K) := by
  rw [Rc_t h ht, Option.bind_some]
  exact k_ft h hk
theorem k_ff {d k i : Nat} {v} {l nx : tr_} {K : mm_S → mm_O} {F : mm_S → Option ct_t} (h : CR z s (ts, es, sv, q)) (ht : Rc z (.inner k i v l nx)) (hk : ∀ s1 q1, CR z s1 (ts, es, sv, q1) → kq_ z (F q1) (K s1)) : kq_ z ((ff_ z (.inner k i v l nx) q).bind F) ((mm_a 26000 34 (nI i) s).bind fun v4 => mm_bI (mE (d + 1) 46 [vr_ (some 0), vi_ v4] s) fun v s2 => mm_bV (mE (d + 1) 45 [vr_ (some 0), vi_ 6, vi_ v] s2) K) := by
  rw [Rc_f h ht, Option.bind_some]
  exact k_ft h hk
end CRwalk
