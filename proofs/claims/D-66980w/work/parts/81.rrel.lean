/-! ===== how a run's state lies in the reference's rows ===== -/
def zf_ (f i : Nat) : Prop := (25 ≤ f ∧ f ≤ 35) ∨ (70 ≤ f ∧ f ≤ 72) ∨ (f = 0 ∧ (i = 69 ∨ i = 99))
def qf_ (f i : Nat) : Prop := (f = 98 ∨ (107 ≤ f ∧ f ≤ 117)) ∨ (f = 0 ∧ ((96 ≤ i ∧ i ≤ 97) ∨ (101 ≤ i ∧ i ≤ 106) ∨ i = 114 ∨ i = 117))
/-- a tree as it stays while it is run -/
def Rs (z : mm_S) : tr_ → Prop
  | .leaf => True
  | .inner k i v l r => (i < 26000 ∧ k < 100) ∧ (z 25 i = nI k ∧ z 27 i = rt_ l ∧ z 28 i = rt_ r) ∧ Rs z l ∧ Rs z r
def tc_ (z s : mm_S) (j : Nat) (x : tqT) : Prop := (s 88 j = nI x.1 ∧ s 89 j = (if x.1 = 18 ∨ x.1 = 23 then x.2.2.2.1 else rt_ x.2.1) ∧ s 90 j = (if x.1 = 17 ∨ x.1 = 11 then rt_ x.2.2.1 else x.2.2.2.2)) ∧ x.1 < 100 ∧ Rs z x.2.1 ∧ Rs z x.2.2.1
def TD (z s : mm_S) : List tqT → Prop
  | [] => True
  | x :: r => tc_ z s r.length x ∧ TD z s r
def VS (s : mm_S) : List Int32 → Prop
  | [] => True
  | v :: r => s 92 r.length = v ∧ VS s r
def FS (s : mm_S) : List (Int32 × Int32) → Prop
  | [] => True
  | v :: r => (s 93 r.length = v.1 ∧ s 94 r.length = v.2) ∧ FS s r
def RR (z s : mm_S) : rs_t → Prop
  | (td, vs, fr, q) => (∀ f i, zf_ f i → s f i = z f i) ∧ (∀ f i, qf_ f i → s f i = q f i) ∧ (s 0 87 = nI td.length ∧ s 0 91 = nI vs.length ∧ s 0 95 = nI fr.length) ∧ TD z s td ∧ VS s vs ∧ FS s fr
def wq_ (z : mm_S) (r : Option rs_t) (o : mm_O) : Prop := match r with
  | none => True
  | some σ => ∃ s', o = some (none, s') ∧ RR z s' σ
section RRrel
variable {z s q : mm_S} {td : List tqT} {vs : List Int32} {fr : List (Int32 × Int32)} {r : Option rs_t}
theorem tc_fr {s s' : mm_S} {j : Nat} {x : tqT} (h88 : s' 88 j = s 88 j) (h89 : s' 89 j = s 89 j) (h90 : s' 90 j = s 90 j) (h : tc_ z s j x) : tc_ z s' j x := by
  obtain ⟨⟨a, b, c⟩, e⟩ := h
  exact ⟨⟨h88.trans a, h89.trans b, h90.trans c⟩, e⟩
theorem TD_fr {s s' : mm_S} : ∀ {td : List tqT}, (∀ f j, 88 ≤ f → f ≤ 90 → j < td.length → s' f j = s f j) → TD z s td → TD z s' td
  | [], _, _ => trivial
  | x :: r, hf, h => ⟨tc_fr (hf _ _ (by omega) (by omega) (by simp)) (hf _ _ (by omega) (by omega) (by simp)) (hf _ _ (by omega) (by omega) (by simp)) h.1, TD_fr (fun f j a b c => hf f j a b (by simp; omega)) h.2⟩
theorem VS_fr {s s' : mm_S} : ∀ {vs : List Int32}, (∀ j, j < vs.length → s' 92 j = s 92 j) → VS s vs → VS s' vs
  | [], _, _ => trivial
  | x :: r, hf, h => ⟨(hf _ (by simp)).trans h.1, VS_fr (fun j c => hf j (by simp; omega)) h.2⟩
theorem FS_fr {s s' : mm_S} : ∀ {fr : List (Int32 × Int32)}, (∀ f j, 93 ≤ f → f ≤ 94 → j < fr.length → s' f j = s f j) → FS s fr → FS s' fr
  | [], _, _ => trivial
  | x :: r, hf, h => ⟨⟨(hf _ _ (by omega) (by omega) (by simp)).trans h.1.1, (hf _ _ (by omega) (by omega) (by simp)).trans h.1.2⟩, FS_fr (fun f j a b c => hf f j a b (by simp; omega)) h.2⟩
theorem zf_lt {f i : Nat} (h : zf_ f i) : ¬ (88 ≤ f) ∧ ¬ (f = 0 ∧ (i = 87 ∨ i = 91 ∨ i = 95)) := by
  unfold zf_ at h
  omega
theorem qf_lt {f i : Nat} (h : qf_ f i) : ¬ (88 ≤ f ∧ f ≤ 94) ∧ ¬ (f = 0 ∧ (i = 87 ∨ i = 91 ∨ i = 95)) := by
  unfold qf_ at h
  omega
theorem zq_ne {f i : Nat} (h : zf_ f i) (h2 : qf_ f i) : False := by
  unfold zf_ at h
  unfold qf_ at h2
  omega
/-- a cell of store or streams changes -/
theorem RR_q (h : RR z s (td, vs, fr, q)) {f i : Nat} (x : Int32) (hf : qf_ f i) : RR z (mm_u s f i x) (td, vs, fr, mm_u q f i x) := by
  obtain ⟨a, b, ⟨c1, c2, c3⟩, e, g, k⟩ := h
  have l := qf_lt hf
  refine ⟨fun f' i' hz => ?_, fun f' i' hq => ?_, ⟨(mu_n (by omega)).trans c1, (mu_n (by omega)).trans c2, (mu_n (by omega)).trans c3⟩, TD_fr (fun f j x y _ => mu_n (by omega)) e, VS_fr (fun j _ => mu_n (by omega)) g, FS_fr (fun f j x y _ => mu_n (by omega)) k⟩
  · rw [mu_n (by rintro ⟨rfl, rfl⟩; exact zq_ne hz hf)]
    exact a f' i' hz
  · by_cases hc : f' = f ∧ i' = i
    · obtain ⟨rfl, rfl⟩ := hc
      rw [mu_s, mu_s]
    · rw [mu_n hc, mu_n hc]
      exact b f' i' hq
theorem w_ok {σ : rs_t} (h : RR z s σ) : wq_ z (some σ) (some (none, s)) := ⟨s, rfl, h⟩
theorem w_none {o : mm_O} : wq_ z none o := trivial
theorem w_ite {P : Prop} [Decidable P] {A B : mm_O} {r1 r2 : Option rs_t} (h1 : P → wq_ z r1 A) (h2 : ¬ P → wq_ z r2 B) : wq_ z (if P then r1 else r2) (if P then A else B) := by
  by_cases h : P
  · rw [if_pos h, if_pos h]; exact h1 h
  · rw [if_neg h, if_neg h]; exact h2 h
theorem w_todo {d : Nat} {k : mm_S → mm_O} {x1 x2 x3 : Int32} {g : Nat} {t u : tr_} {x y : Int32} (h : RR z s (td, vs, fr, q)) (e1 : x1 = nI g) (e2 : x2 = (if g = 18 ∨ g = 23 then x else rt_ t)) (e3 : x3 = (if g = 17 ∨ g = 11 then rt_ u else y)) (hl : td.length < 620000) (hg : g < 100) (ht : Rs z t) (hu : Rs z u)
    (hk : ∀ s1, RR z s1 ((g, t, u, x, y) :: td, vs, fr, q) → wq_ z r (k s1)) : wq_ z r (mm_bV (mE (d + 1) 92 [vr_ (some 0), vi_ x1, vi_ x2, vi_ x3] s) k) := by
  obtain ⟨a, b, ⟨c1, c2, c3⟩, e, g', k'⟩ := h
  rw [me_todoTask, c1, if_neg (by rw [neq1_ 620000 (by omega) (by decide)]; omega), mm_w_n hl (by decide), Option.bind_some]
  have f1 : mm_u s 88 td.length x1 0 87 = nI td.length := (mu_n (by omega)).trans c1
  rw [f1, mm_w_n hl (by decide), Option.bind_some]
  have f2 : mm_u (mm_u s 88 td.length x1) 89 td.length x2 0 87 = nI td.length := (mu_n (by omega)).trans f1
  rw [f2, mm_w_n hl (by decide), Option.bind_some]
  have f3 : mm_u (mm_u (mm_u s 88 td.length x1) 89 td.length x2) 90 td.length x3 0 87 = nI td.length := (mu_n (by omega)).trans f2
  rw [f3, nI_1]
  have go : ∀ f j, ¬ (88 ≤ f ∧ f ≤ 90 ∧ j = td.length) → ¬ (f = 0 ∧ j = 87) → mm_u (mm_u (mm_u (mm_u s 88 td.length x1) 89 td.length x2) 90 td.length x3) 0 87 (nI (td.length + 1)) f j = s f j := fun f j h1 h2 => by
    rw [mu_n h2, mu_n (by omega), mu_n (by omega), mu_n (by omega)]
  refine hk _ ⟨fun f i hz => ?_, fun f i hq => ?_, ⟨mu_s, ?_, ?_⟩, ⟨⟨⟨?_, ?_, ?_⟩, hg, ht, hu⟩, TD_fr (fun f j _ _ _ => go _ _ (by omega) (by omega)) e⟩, VS_fr (fun j _ => go _ _ (by omega) (by omega)) g', FS_fr (fun f j _ _ _ => go _ _ (by omega) (by omega)) k'⟩
  · have := zf_lt hz; rw [go _ _ (by omega) (by omega)]; exact a f i hz
  · have := qf_lt hq; rw [go _ _ (by omega) (by omega)]; exact b f i hq
  · exact (go _ _ (by omega) (by omega)).trans c2
  · exact (go _ _ (by omega) (by omega)).trans c3
  · rw [mu_n (by omega), mu_n (by omega), mu_n (by omega), mu_s]; exact e1
  · rw [mu_n (by omega), mu_n (by omega), mu_s]; exact e2
  · rw [mu_n (by omega), mu_s]; exact e3
theorem w_push {d : Nat} {k : mm_S → mm_O} {v : Int32} (h : RR z s (td, vs, fr, q)) (hl : vs.length < 300000) (hk : ∀ s1, RR z s1 (td, v :: vs, fr, q) → wq_ z r (k s1)) : wq_ z r (mm_bV (mE (d + 1) 95 [vr_ (some 0), vi_ v] s) k) := by
  obtain ⟨a, b, ⟨c1, c2, c3⟩, e, g', k'⟩ := h
  rw [me_push, c2, if_neg (by rw [neq1_ 300000 (by omega) (by decide)]; omega), mm_w_n hl (by decide), Option.bind_some]
  have f1 : mm_u s 92 vs.length v 0 91 = nI vs.length := (mu_n (by omega)).trans c2
  rw [f1, nI_1]
  have go : ∀ f j, ¬ (f = 92 ∧ j = vs.length) → ¬ (f = 0 ∧ j = 91) → mm_u (mm_u s 92 vs.length v) 0 91 (nI (vs.length + 1)) f j = s f j := fun f j h1 h2 => by rw [mu_n h2, mu_n h1]
  refine hk _ ⟨fun f i hz => ?_, fun f i hq => ?_, ⟨?_, mu_s, ?_⟩, TD_fr (fun f j _ _ _ => go _ _ (by omega) (by omega)) e, ⟨?_, VS_fr (fun j _ => go _ _ (by omega) (by omega)) g'⟩, FS_fr (fun f j _ _ _ => go _ _ (by omega) (by omega)) k'⟩
  · have := zf_lt hz; rw [go _ _ (by omega) (by omega)]; exact a f i hz
  · have := qf_lt hq; rw [go _ _ (by omega) (by omega)]; exact b f i hq
  · exact (go _ _ (by omega) (by omega)).trans c1
  · exact (go _ _ (by omega) (by omega)).trans c3
  · rw [mu_n (by omega), mu_s]
theorem RR_vs {vs' : List Int32} (h : RR z s (td, vs, fr, q)) (hv : VS s vs') : RR z (mm_u s 0 91 (nI vs'.length)) (td, vs', fr, q) := by
  obtain ⟨a, b, ⟨c1, c2, c3⟩, e, g', k'⟩ := h
  have go : ∀ f j, ¬ (f = 0 ∧ j = 91) → mm_u s 0 91 (nI vs'.length) f j = s f j := fun f j h => mu_n h
  refine ⟨fun f i hz => ?_, fun f i hq => ?_, ⟨(go _ _ (by omega)).trans c1, mu_s, (go _ _ (by omega)).trans c3⟩, TD_fr (fun f j _ _ _ => go _ _ (by omega)) e, VS_fr (fun j _ => go _ _ (by omega)) hv, FS_fr (fun f j _ _ _ => go _ _ (by omega)) k'⟩
  · have := zf_lt hz; rw [go _ _ (by omega)]; exact a f i hz
  · have := qf_lt hq; rw [go _ _ (by omega)]; exact b f i hq
theorem RR_td {td' : List tqT} (h : RR z s (td, vs, fr, q)) (hv : TD z s td') : RR z (mm_u s 0 87 (nI td'.length)) (td', vs, fr, q) := by
  obtain ⟨a, b, ⟨c1, c2, c3⟩, e, g', k'⟩ := h
  have go : ∀ f j, ¬ (f = 0 ∧ j = 87) → mm_u s 0 87 (nI td'.length) f j = s f j := fun f j h => mu_n h
  refine ⟨fun f i hz => ?_, fun f i hq => ?_, ⟨mu_s, (go _ _ (by omega)).trans c2, (go _ _ (by omega)).trans c3⟩, TD_fr (fun f j _ _ _ => go _ _ (by omega)) hv, VS_fr (fun j _ => go _ _ (by omega)) g', FS_fr (fun f j _ _ _ => go _ _ (by omega)) k'⟩
  · have := zf_lt hz; rw [go _ _ (by omega)]; exact a f i hz
  · have := qf_lt hq; rw [go _ _ (by omega)]; exact b f i hq
theorem w_pop {d : Nat} {k : Int32 → mm_S → mm_O} {v : Int32} (h : RR z s (td, v :: vs, fr, q)) (hl : vs.length < 300000) (hk : ∀ s1, RR z s1 (td, vs, fr, q) → wq_ z r (k v s1)) : wq_ z r (mm_bI (mE (d + 1) 96 [vr_ (some 0)] s) k) := by
  have c2 : s 0 91 = nI (vs.length + 1) := h.2.2.1.2.1
  have hv := h.2.2.2.2.1
  rw [me_pop, c2, show (nI (vs.length + 1) - 1 : Int32) = nI vs.length from nI_pred _, mm_a_n hl (by decide), Option.bind_some, mu_n (by omega), hv.1]
  exact hk _ (RR_vs h hv.2)
theorem w_err {d : Nat} {k : mm_S → mm_O} {x : Int32} (h : RR z s (td, vs, fr, q)) (hk : ∀ s1, RR z s1 (td, vs, fr, er_ x q) → wq_ z r (k s1)) : wq_ z r (mm_bV (mE (d + 1) 93 [vr_ (some 0), vi_ x] s) k) := by
  rw [me_err, h.2.1 0 102 (by unfold qf_; omega)]
  unfold er_ at hk
  by_cases hc : q 0 102 = 0
  · rw [if_pos hc]
    rw [if_pos hc] at hk
    exact hk _ (RR_q (RR_q (RR_q h 1 (by unfold qf_; omega)) x (by unfold qf_; omega)) 0 (by unfold qf_; omega))
  · rw [if_neg hc]
    rw [if_neg hc] at hk
    exact hk _ h
theorem w_burn {d : Nat} {k : Int32 → mm_S → mm_O} {f : mm_S → Option rs_t} {td' : List tqT} {vs' : List Int32} {fr' : List (Int32 × Int32)} (h : RR z s (td, vs, fr, q)) (h0 : ∀ s1, RR z s1 (td, vs, fr, er_ 1 q) → wq_ z (some (td', vs', fr', er_ 1 q)) (k 0 s1)) (h1 : ∀ s1 q1, RR z s1 (td, vs, fr, q1) → wq_ z (f q1) (k 1 s1)) : wq_ z (bu_ q f td' vs' fr') (mm_bI (mE (d + 2) 94 [vr_ (some 0)] s) k) := by
  rw [me_burns, h.2.1 0 101 (by unfold qf_; omega)]
  unfold bu_
  by_cases hc : q 0 101 = 0
  · rw [if_pos hc, if_pos hc]
    have e : ∀ o : mm_O, mm_bI (mm_bV o fun s1 => some (some (vi_ 0), s1)) k = mm_bV o fun s1 => k 0 s1 := fun o => by
      unfold mm_bV
      cases o with
      | none => rfl
      | some x =>
        obtain ⟨a, b⟩ := x
        cases a <;> rfl
    rw [e]
    exact w_err h h0
  · rw [if_neg hc, if_neg hc]
    exact h1 _ _ (RR_q h _ (by unfold qf_; omega))
theorem mm_a_z {n f : Nat} {x : Int32} (h : RR z s (td, vs, fr, q)) (hf : ∀ i, zf_ f i) : mm_a n f x s = mm_a n f x z := by
  unfold mm_a
  split
  · rw [h.1 _ _ (hf _)]
  · rfl
theorem mm_a_q {n f : Nat} {x : Int32} (h : RR z s (td, vs, fr, q)) (hf : ∀ i, qf_ f i) : mm_a n f x s = mm_a n f x q := by
  unfold mm_a
  split
  · rw [h.2.1 _ _ (hf _)]
  · rfl
theorem w_a {α : Type} {n f : Nat} {x : Int32} {F : Int32 → Option rs_t} {k : Int32 → mm_O} (hk : ∀ v, wq_ z (F v) (k v)) : wq_ z ((mm_a n f x q).bind F) ((mm_a n f x q).bind k) := by
  cases mm_a n f x q with
  | none => exact w_none
  | some v => exact hk v
theorem w_w {n f : Nat} {x y : Int32} {F : mm_S → Option rs_t} {k : mm_S → mm_O} (h : RR z s (td, vs, fr, q)) (hf : ∀ i, qf_ f i) (hk : ∀ s1 q1, RR z s1 (td, vs, fr, q1) → wq_ z (F q1) (k s1)) : wq_ z ((mm_w n f x y q).bind F) ((mm_w n f x y s).bind k) := by
  unfold mm_w
  split
  · exact hk _ _ (RR_q h _ (hf _))
  · exact w_none
end RRrel
