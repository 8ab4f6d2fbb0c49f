/-! ===== how the static rules' state lies in the reference's rows ===== -/
def kS (f i : Nat) : Prop := (50 ≤ f ∧ f ≤ 54) ∨ f = 57 ∨ (60 ≤ f ∧ f ≤ 62) ∨ (64 ≤ f ∧ f ≤ 66) ∨ f = 68 ∨ (f = 0 ∧ (i = 49 ∨ i = 63 ∨ i = 67))
def kD (f i : Nat) : Prop := (29 ≤ f ∧ f ≤ 31) ∨ (70 ≤ f ∧ f ≤ 72) ∨ f = 85 ∨ f = 86 ∨ (f = 0 ∧ (i = 12 ∨ i = 13 ∨ i = 55 ∨ i = 58 ∨ i = 59 ∨ i = 69 ∨ (73 ≤ i ∧ i ≤ 84)))
/-- to be looked at (kind, tree, number), what names mean, what was put aside, the rest -/
abbrev ct_t : Type := List (Nat × tr_ × Int32) × List enT × List Int32 × mm_S
def Rc (z : mm_S) : tr_ → Prop
  | .leaf => True
  | .inner k i v l r => (i < 26000 ∧ k < 100) ∧ (z 25 i = nI k ∧ z 26 i = nI v.1 ∧ z 27 i = rt_ l ∧ z 28 i = rt_ r ∧ z 34 i = nI v.2.2.2.1 ∧ (rs_r l).length ≤ 26000) ∧ Rc z l ∧ Rc z r
def KT (z s : mm_S) : List (Nat × tr_ × Int32) → Prop
  | [] => True
  | x :: r => ((s 64 r.length = nI x.1 ∧ s 65 r.length = (if x.1 = 9 ∨ x.1 = 10 then 0 else rt_ x.2.1) ∧ s 66 r.length = x.2.2) ∧ x.1 < 100 ∧ Rc z x.2.1) ∧ KT z s r
def KE (s : mm_S) : List enT → Prop
  | [] => True
  | e :: r => (s 50 r.length = e.1 ∧ s 51 r.length = e.2.1 ∧ s 52 r.length = e.2.2.1 ∧ s 53 r.length = e.2.2.2.1 ∧ s 54 r.length = e.2.2.2.2.1 ∧ (e.2.1 ≠ 6 → s 57 r.length = e.2.2.2.2.2)) ∧ KE s r
def KV (s : mm_S) : List Int32 → Prop
  | [] => True
  | v :: r => s 68 r.length = v ∧ KV s r
def CR (z s : mm_S) : ct_t → Prop
  | (ts, es, sv, q) => (∀ f i, ¬ kS f i → ¬ kD f i → s f i = z f i) ∧ (∀ f i, kD f i → s f i = q f i) ∧ (s 0 63 = nI ts.length ∧ s 0 49 = nI es.length ∧ s 0 67 = nI sv.length) ∧ KT z s ts ∧ KE s es ∧ KV s sv ∧ (ts.length ≤ 26000 ∧ es.length ≤ 9000 ∧ sv.length ≤ 60000)
def kq_ (z : mm_S) (r : Option ct_t) (o : mm_O) : Prop := match r with
  | none => True
  | some σ => ∃ s', o = some (none, s') ∧ CR z s' σ
section CRrel
variable {z s q : mm_S} {ts : List (Nat × tr_ × Int32)} {es : List enT} {sv : List Int32} {r : Option ct_t}
theorem KT_fr {s s' : mm_S} : ∀ {ts : List (Nat × tr_ × Int32)}, (∀ f j, 64 ≤ f → f ≤ 66 → j < ts.length → s' f j = s f j) → KT z s ts → KT z s' ts
  | [], _, _ => trivial
  | x :: r, hf, h => ⟨⟨⟨(hf _ _ (by omega) (by omega) (by simp)).trans h.1.1.1, (hf _ _ (by omega) (by omega) (by simp)).trans h.1.1.2.1, (hf _ _ (by omega) (by omega) (by simp)).trans h.1.1.2.2⟩, h.1.2⟩, KT_fr (fun f j a b c => hf f j a b (by simp; omega)) h.2⟩
theorem KE_fr {s s' : mm_S} : ∀ {es : List enT}, (∀ f j, 50 ≤ f → f ≤ 57 → j < es.length → s' f j = s f j) → KE s es → KE s' es
  | [], _, _ => trivial
  | x :: r, hf, h => by
    obtain ⟨⟨a1, a2, a3, a4, a5, a6⟩, h⟩ := h
    have hr : r.length < (x :: r).length := by simp
    refine ⟨⟨?_, ?_, ?_, ?_, ?_, fun hx => ?_⟩, KE_fr (fun f j a b c => hf f j a b (by simp; omega)) h⟩
    · rw [hf 50 _ (by omega) (by omega) hr]; exact a1
    · rw [hf 51 _ (by omega) (by omega) hr]; exact a2
    · rw [hf 52 _ (by omega) (by omega) hr]; exact a3
    · rw [hf 53 _ (by omega) (by omega) hr]; exact a4
    · rw [hf 54 _ (by omega) (by omega) hr]; exact a5
    · rw [hf 57 _ (by omega) (by omega) hr]; exact a6 hx
theorem KV_fr {s s' : mm_S} : ∀ {sv : List Int32}, (∀ j, j < sv.length → s' 68 j = s 68 j) → KV s sv → KV s' sv
  | [], _, _ => trivial
  | x :: r, hf, h => ⟨(hf _ (by simp)).trans h.1, KV_fr (fun j c => hf j (by simp; omega)) h.2⟩
theorem kD_S {f i : Nat} (h : kD f i) : ¬ kS f i := by
  unfold kD at h
  unfold kS
  omega
/-- a cell of the rest changes -/
theorem CR_q (h : CR z s (ts, es, sv, q)) {f i : Nat} (x : Int32) (hf : kD f i) : CR z (mm_u s f i x) (ts, es, sv, mm_u q f i x) := by
  obtain ⟨a, b, ⟨c1, c2, c3⟩, e, g, k, l⟩ := h
  have hs := hf
  unfold kD at hs
  refine ⟨fun f' i' hz hd => ?_, fun f' i' hq => ?_, ⟨(mu_n (by omega)).trans c1, (mu_n (by omega)).trans c2, (mu_n (by omega)).trans c3⟩, KT_fr (fun f j x y _ => mu_n (by omega)) e, KE_fr (fun f j x y _ => mu_n (by omega)) g, KV_fr (fun j _ => mu_n (by omega)) k, l⟩
  · rw [mu_n (by rintro ⟨rfl, rfl⟩; exact hd hf)]
    exact a f' i' hz hd
  · by_cases hc : f' = f ∧ i' = i
    · obtain ⟨rfl, rfl⟩ := hc
      rw [mu_s, mu_s]
    · rw [mu_n hc, mu_n hc]
      exact b f' i' hq
/-- a cell of the constants' rows changes -/
theorem CR_w (h : CR z s (ts, es, sv, q)) {f i : Nat} (x : Int32) (hf : 60 ≤ f ∧ f ≤ 62) : CR z (mm_u s f i x) (ts, es, sv, q) := by
  obtain ⟨a, b, ⟨c1, c2, c3⟩, e, g, k, l⟩ := h
  refine ⟨fun f' i' hz hd => ?_, fun f' i' hq => ?_, ⟨(mu_n (by omega)).trans c1, (mu_n (by omega)).trans c2, (mu_n (by omega)).trans c3⟩, KT_fr (fun f j x y _ => mu_n (by omega)) e, KE_fr (fun f j x y _ => mu_n (by omega)) g, KV_fr (fun j _ => mu_n (by omega)) k, l⟩
  · rw [mu_n (by rintro ⟨rfl, rfl⟩; unfold kS at hz; omega)]
    exact a f' i' hz hd
  · rw [mu_n (by rintro ⟨rfl, rfl⟩; unfold kD at hq; omega)]
    exact b f' i' hq
theorem k_ok {σ : ct_t} (h : CR z s σ) : kq_ z (some σ) (some (none, s)) := ⟨s, rfl, h⟩
theorem k_none {o : mm_O} : kq_ z none o := trivial
theorem k_ite {P : Prop} [Decidable P] {A B : mm_O} {r1 r2 : Option ct_t} (h1 : P → kq_ z r1 A) (h2 : ¬ P → kq_ z r2 B) : kq_ z (if P then r1 else r2) (if P then A else B) := by
  by_cases h : P
  · rw [if_pos h, if_pos h]; exact h1 h
  · rw [if_neg h, if_neg h]; exact h2 h
theorem CR_z (h : CR z s (ts, es, sv, q)) {f i : Nat} (h1 : ¬ kS f i) (h2 : ¬ kD f i) : s f i = z f i := h.1 f i h1 h2
theorem mm_a_cz {n f : Nat} {x : Int32} (h : CR z s (ts, es, sv, q)) (hf : ∀ i, ¬ kS f i ∧ ¬ kD f i) : mm_a n f x s = mm_a n f x z := by
  unfold mm_a
  split
  · rw [h.1 _ _ (hf _).1 (hf _).2]
  · rfl
theorem mm_a_cq {n f : Nat} {x : Int32} (h : CR z s (ts, es, sv, q)) (hf : ∀ i, kD f i) : mm_a n f x s = mm_a n f x q := by
  unfold mm_a
  split
  · rw [h.2.1 _ _ (hf _)]
  · rfl
theorem m_fault (h : CR z s (ts, es, sv, q)) (d : Nat) (k p : Int32) : ∃ s1, mE (d + 1) 45 [vr_ (some 0), vi_ k, vi_ p] s = some (none, s1) ∧ CR z s1 (ts, es, sv, fa_ k p q) ∧ ∀ f i, f ≠ 0 → s1 f i = s f i := by
  have e1 := h.2.1 0 12 (by unfold kD; omega)
  have e2 := h.2.1 0 13 (by unfold kD; omega)
  have g : CR z (mm_u (mm_u s 0 12 k) 0 13 p) (ts, es, sv, mm_u (mm_u q 0 12 k) 0 13 p) := CR_q (CR_q h k (by unfold kD; omega)) p (by unfold kD; omega)
  have g2 : ∀ f i, f ≠ 0 → mm_u (mm_u s 0 12 k) 0 13 p f i = s f i := fun f i hf => by rw [mu_n (by omega), mu_n (by omega)]
  rw [me_fault, e1, e2]
  unfold fa_
  by_cases c1 : q 0 12 = 0
  · rw [if_pos c1, if_pos c1]
    exact ⟨_, rfl, g, g2⟩
  rw [if_neg c1, if_neg c1]
  by_cases c2 : q 0 13 < p
  · rw [if_pos c2, if_pos c2]
    exact ⟨_, rfl, h, fun _ _ _ => rfl⟩
  rw [if_neg c2, if_neg c2]
  by_cases c3 : p = q 0 13
  · rw [if_pos c3, if_pos c3]
    by_cases c4 : k < q 0 12
    · rw [if_pos c4, if_pos c4]
      exact ⟨_, rfl, g, g2⟩
    · rw [if_neg c4, if_neg c4]
      exact ⟨_, rfl, h, fun _ _ _ => rfl⟩
  · rw [if_neg c3, if_neg c3]
    exact ⟨_, rfl, g, g2⟩
theorem k_fault {d : Nat} {K : mm_S → mm_O} {k p : Int32} (h : CR z s (ts, es, sv, q)) (hk : ∀ s1, CR z s1 (ts, es, sv, fa_ k p q) → kq_ z r (K s1)) : kq_ z r (mm_bV (mE (d + 1) 45 [vr_ (some 0), vi_ k, vi_ p] s) K) := by
  obtain ⟨s1, e, g, _⟩ := m_fault h d k p
  rw [e]
  exact hk s1 g
theorem m_place (h : CR z s (ts, es, sv, q)) (d : Nat) (t : Int32) : mE (d + 1) 46 [vr_ (some 0), vi_ t] s = (pl_k z t).bind fun p => some (some (vi_ p), s) := by
  rw [me_place, mm_a_cz h (by intro i; unfold kS kD; omega)]
  rfl
theorem m_ft (h : CR z s (ts, es, sv, q)) (d : Nat) (k t : Int32) (K : mm_S → mm_O) {q' : mm_S} (hf : ft_ z k t q = some q') : ∃ s1, (mm_bI (mE (d + 1) 46 [vr_ (some 0), vi_ t] s) fun v s2 => mm_bV (mE (d + 1) 45 [vr_ (some 0), vi_ k, vi_ v] s2) K) = K s1 ∧ CR z s1 (ts, es, sv, q') ∧ ∀ f i, f ≠ 0 → s1 f i = s f i := by
  rw [m_place h]
  unfold ft_ at hf
  cases hp : pl_k z t with
  | none => rw [hp] at hf; exact nomatch hf
  | some p =>
    rw [hp, Option.bind_some] at hf
    obtain ⟨s1, e, g, g2⟩ := m_fault h d k p
    refine ⟨s1, ?_, ?_, g2⟩
    · show mm_bV (mE (d + 1) 45 [vr_ (some 0), vi_ k, vi_ p] s) K = _
      rw [e]
      rfl
    · cases hf
      exact g
theorem k_ft {d : Nat} {K : mm_S → mm_O} {k t : Int32} {F : mm_S → Option ct_t} (h : CR z s (ts, es, sv, q)) (hk : ∀ s1 q1, CR z s1 (ts, es, sv, q1) → kq_ z (F q1) (K s1)) : kq_ z ((ft_ z k t q).bind F) (mm_bI (mE (d + 1) 46 [vr_ (some 0), vi_ t] s) fun v s2 => mm_bV (mE (d + 1) 45 [vr_ (some 0), vi_ k, vi_ v] s2) K) := by
  cases hf : ft_ z k t q with
  | none => exact k_none
  | some q' =>
    obtain ⟨s1, e, g, _⟩ := m_ft h d k t K hf
    rw [e]
    exact hk s1 q' g
/-- what a name means -/
theorem KE_mn {nm : Int32} : ∀ {es : List enT} {j : Nat} {e : enT}, KE s es → mn_k nm es = some (j, e) → j < es.length ∧ s 50 j = e.1 ∧ s 51 j = e.2.1 ∧ s 52 j = e.2.2.1 ∧ s 53 j = e.2.2.2.1 ∧ s 54 j = e.2.2.2.2.1 ∧ (e.2.1 ≠ 6 → s 57 j = e.2.2.2.2.2) ∧ e.1 = nm
  | [], _, _, _, h => nomatch h
  | x :: r, j, e, h, hm => by
    unfold mn_k at hm
    by_cases c : x.1 = nm
    · rw [if_pos c] at hm
      cases hm
      obtain ⟨⟨a1, a2, a3, a4, a5, a6⟩, _⟩ := h
      exact ⟨by simp, a1, a2, a3, a4, a5, a6, c⟩
    · rw [if_neg c] at hm
      have := KE_mn h.2 hm
      exact ⟨by simp; omega, this.2⟩
theorem m_means_j (d : Nat) (nm : Int32) : ∀ (es : List enT), KE s es → es.length ≤ 9000 → mJ (d + 1) 47 7 [vr_ (some 0), vi_ nm, vi_ (nI es.length - 1)] [] s = some (some (vi_ (match mn_k nm es with | none => -1 | some (j, _) => nI j)), s)
  | [], _, _ => by
    rw [mj_means_7, if_pos (by decide)]
    rfl
  | e :: r, h, hl => by
    have hl' : r.length < 9000 := by simp at hl; omega
    rw [mj_means_7, show (nI (e :: r).length - 1 : Int32) = nI r.length from nI_pred _, if_neg (by rw [nlt1_ 0 (by omega) (by decide)]; omega), mm_a_n hl' (by decide), Option.bind_some, h.1.1]
    unfold mn_k
    by_cases c : e.1 = nm
    · rw [if_pos c, if_pos c]
    · rw [if_neg c, if_neg c]
      rw [show (nI r.length + -1 : Int32) = nI r.length - 1 from (Int32.sub_eq_add_neg _ _).symm]
      exact m_means_j d nm r h.2 (by omega)
theorem m_means (h : CR z s (ts, es, sv, q)) (d : Nat) (nm : Int32) : mE (d + 1) 47 [vr_ (some 0), vi_ nm] s = some (some (vi_ (match mn_k nm es with | none => -1 | some (j, _) => nI j)), s) := by
  rw [me_means, h.2.2.1.2.1]
  exact m_means_j d nm es h.2.2.2.2.1 h.2.2.2.2.2.2.2.1
end CRrel
