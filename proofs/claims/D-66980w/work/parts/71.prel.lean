/-! ===== how the parser's state lies in the reference's rows ===== -/
def ix_ : tr_ → List Nat
  | .leaf => []
  | .inner _ i _ l r => i :: (ix_ l ++ ix_ r)
def rs_r : tr_ → List Nat
  | .leaf => []
  | .inner _ i _ _ r => i :: rs_r r
/-- left sides of an assignment know their right sides -/
def pw_ (s : mm_S) (m : Nat) (l : tr_) : Prop := ∀ j x y, j < m → (rs_r l)[j]? = some x → (rs_r l)[m + j]? = some y → s 32 x = nI y
def Rp (s : mm_S) (lo hi : Nat) : tr_ → Prop
  | .leaf => True
  | .inner k i v l r => (lo ≤ i ∧ i < hi) ∧ (k < 100 ∧ v.1 < 2 ^ 31 ∧ v.2.2.1 < 2 ^ 31 ∧ v.2.2.2.1 < 2 ^ 31) ∧
      (s 25 i = nI k ∧ s 26 i = nI v.1 ∧ s 27 i = rt_ l ∧ s 28 i = rt_ r ∧ s 29 i = v.2.1 ∧ s 33 i = nI v.2.2.1 ∧ s 34 i = nI v.2.2.2.1 ∧ s 35 i = zb_ v.2.2.2.2) ∧
      (k = 20 → ∃ m, m < 2 ^ 31 ∧ v.2.1 = nI m ∧ (rs_r l).length = 2 * m ∧ pw_ s m l) ∧ Rp s lo hi l ∧ Rp s lo hi r
theorem Rp_ix {s : mm_S} {lo hi : Nat} : ∀ {t : tr_}, Rp s lo hi t → ∀ i, i ∈ ix_ t → lo ≤ i ∧ i < hi
  | .leaf, _, i, h => by simp [ix_] at h
  | .inner k j v l r, h, i, hi => by
    obtain ⟨h1, _, _, _, hl, hr⟩ := h
    simp only [ix_, List.mem_cons, List.mem_append] at hi
    rcases hi with rfl | hi | hi
    · exact h1
    · exact Rp_ix hl i hi
    · exact Rp_ix hr i hi
theorem rs_ix : ∀ {t : tr_} {i : Nat}, i ∈ rs_r t → i ∈ ix_ t
  | .leaf, i, h => by simp [rs_r] at h
  | .inner k j v l r, i, h => by
    simp only [rs_r, List.mem_cons] at h
    simp only [ix_, List.mem_cons, List.mem_append]
    rcases h with rfl | h
    · exact Or.inl rfl
    · exact Or.inr (Or.inr (rs_ix h))
theorem Rp_fr {s s' : mm_S} {lo hi : Nat} : ∀ {t : tr_}, (∀ f i, 25 ≤ f → f ≤ 35 → i ∈ ix_ t → s' f i = s f i) → Rp s lo hi t → Rp s' lo hi t
  | .leaf, _, _ => trivial
  | .inner k i v l r, hf, h => by
    obtain ⟨h1, h2, ⟨e1, e2, e3, e4, e5, e6, e7, e8⟩, hp, hl, hr⟩ := h
    have hi : i ∈ ix_ (.inner k i v l r : tr_) := by simp [ix_]
    have hL : ∀ f j, 25 ≤ f → f ≤ 35 → j ∈ ix_ l → s' f j = s f j := fun f j a b c => hf f j a b (by simp [ix_, c])
    have hR : ∀ f j, 25 ≤ f → f ≤ 35 → j ∈ ix_ r → s' f j = s f j := fun f j a b c => hf f j a b (by simp [ix_, c])
    refine ⟨h1, h2, ⟨?_, ?_, ?_, ?_, ?_, ?_, ?_, ?_⟩, fun hk => ?_, Rp_fr hL hl, Rp_fr hR hr⟩
    · rw [hf 25 i (by omega) (by omega) hi, e1]
    · rw [hf 26 i (by omega) (by omega) hi, e2]
    · rw [hf 27 i (by omega) (by omega) hi, e3]
    · rw [hf 28 i (by omega) (by omega) hi, e4]
    · rw [hf 29 i (by omega) (by omega) hi, e5]
    · rw [hf 33 i (by omega) (by omega) hi, e6]
    · rw [hf 34 i (by omega) (by omega) hi, e7]
    · rw [hf 35 i (by omega) (by omega) hi, e8]
    · obtain ⟨m, m1, m2, m3, m4⟩ := hp hk
      refine ⟨m, m1, m2, m3, fun j x y hj hx hy => ?_⟩
      rw [hL 32 x (by omega) (by omega) (rs_ix (List.mem_of_getElem? hx))]
      exact m4 j x y hj hx hy
theorem Rp_wd {s : mm_S} {lo hi lo' hi' : Nat} (h1 : lo' ≤ lo) (h2 : hi ≤ hi') : ∀ {t : tr_}, Rp s lo hi t → Rp s lo' hi' t
  | .leaf, _ => trivial
  | .inner k i v l r, h => by
    obtain ⟨a, b, c, e, hl, hr⟩ := h
    exact ⟨⟨by omega, by omega⟩, b, c, e, Rp_wd h1 h2 hl, Rp_wd h1 h2 hr⟩
/-- the number of the last of a row -/
def la_ : tr_ → Nat
  | .leaf => 0
  | .inner _ i _ _ .leaf => i
  | .inner _ _ _ _ (.inner k i v l r) => la_ (.inner k i v l r)
theorem la_ix : ∀ {t : tr_}, t ≠ .leaf → la_ t ∈ ix_ t
  | .leaf, h => absurd rfl h
  | .inner _ i _ l .leaf, _ => by simp [la_, ix_]
  | .inner a b c d (.inner k i v l r), _ => by
    have := la_ix (t := (.inner k i v l r : tr_)) (by simp)
    rw [ix_]
    show la_ (.inner k i v l r : tr_) ∈ _
    exact List.mem_cons_of_mem _ (List.mem_append_right _ this)
theorem ix_sn : ∀ (t x : tr_), (ix_ (sn_ t x)).Perm (ix_ t ++ ix_ x)
  | .leaf, x => by simp [sn_, ix_]
  | .inner k i v l r, x => by
    simp only [sn_, ix_, List.cons_append, List.append_assoc]
    exact ((ix_sn r x).append_left _).cons _
theorem rs_sn : ∀ (t x : tr_), rs_r (sn_ t x) = rs_r t ++ rs_r x
  | .leaf, x => by simp [sn_, rs_r]
  | .inner k i v l r, x => by simp [sn_, rs_r, rs_sn r x]
theorem rt_sn (t x : tr_) (h : t ≠ .leaf) : rt_ (sn_ t x) = rt_ t := by
  cases t with
  | leaf => exact absurd rfl h
  | inner k i v l r => rfl
theorem Rp_sn {s : mm_S} {lo mid hi : Nat} {x : tr_} (hx : Rp s mid hi x) (hm : lo ≤ mid) (hm2 : mid ≤ hi) : ∀ {t : tr_}, t ≠ .leaf → Rp s lo mid t → (ix_ t).Nodup → Rp (mm_u s 28 (la_ t) (rt_ x)) lo hi (sn_ t x)
  | .leaf, h, _, _ => absurd rfl h
  | .inner k i v l .leaf, _, h, nd => by
    obtain ⟨h1, h2, ⟨e1, e2, e3, e4, e5, e6, e7, e8⟩, hp, hl, hr⟩ := h
    have hil : i ∉ ix_ l := by
      intro hc
      rw [ix_, List.nodup_cons] at nd
      exact nd.1 (List.mem_append_left _ hc)
    have fx : ∀ f j, 25 ≤ f → f ≤ 35 → j ∈ ix_ x → mm_u s 28 i (rt_ x) f j = s f j := fun f j _ _ hj => mu_n (by have := Rp_ix hx j hj; omega)
    have fl : ∀ f j, 25 ≤ f → f ≤ 35 → j ∈ ix_ l → mm_u s 28 i (rt_ x) f j = s f j := fun f j _ _ hj => mu_n (by
      rintro ⟨_, rfl⟩
      exact hil hj)
    refine ⟨⟨h1.1, by omega⟩, h2, ⟨?_, ?_, ?_, ?_, ?_, ?_, ?_, ?_⟩, fun hk => ?_, Rp_wd (Nat.le_refl _) hm2 (Rp_fr fl hl), Rp_wd hm (Nat.le_refl _) (Rp_fr fx hx)⟩
    · exact (mu_n (by omega)).trans e1
    · exact (mu_n (by omega)).trans e2
    · exact (mu_n (by omega)).trans e3
    · exact mu_s
    · exact (mu_n (by omega)).trans e5
    · exact (mu_n (by omega)).trans e6
    · exact (mu_n (by omega)).trans e7
    · exact (mu_n (by omega)).trans e8
    · obtain ⟨m, m1, m2, m3, m4⟩ := hp hk
      exact ⟨m, m1, m2, m3, fun j a b hj ha hb => (mu_n (by omega)).trans (m4 j a b hj ha hb)⟩
  | .inner a b c d (.inner k i v l r), _, h, nd => by
    obtain ⟨h1, h2, ⟨e1, e2, e3, e4, e5, e6, e7, e8⟩, hp, hl, hr⟩ := h
    have hla := la_ix (t := (.inner k i v l r : tr_)) (by simp)
    rw [ix_, List.nodup_cons, List.nodup_append] at nd
    obtain ⟨n1, n2, n3, n4⟩ := nd
    have hb : la_ (.inner k i v l r : tr_) ≠ b := fun e => n1 (List.mem_append_right _ (e ▸ hla))
    have fl : ∀ f j, 25 ≤ f → f ≤ 35 → j ∈ ix_ d → mm_u s 28 (la_ (.inner k i v l r : tr_)) (rt_ x) f j = s f j := fun f j _ _ hj => mu_n (by
      rintro ⟨_, e⟩
      exact n4 j hj _ hla e)
    have ih := Rp_sn hx hm hm2 (t := (.inner k i v l r : tr_)) (by simp) hr n3
    show Rp (mm_u s 28 (la_ (.inner k i v l r : tr_)) (rt_ x)) lo hi (.inner a b c d (sn_ (.inner k i v l r) x))
    refine ⟨⟨h1.1, by omega⟩, h2, ⟨?_, ?_, ?_, ?_, ?_, ?_, ?_, ?_⟩, fun hk => ?_, Rp_wd (Nat.le_refl _) hm2 (Rp_fr fl hl), ih⟩
    · exact (mu_n (by omega)).trans e1
    · exact (mu_n (by omega)).trans e2
    · exact (mu_n (by omega)).trans e3
    · exact (mu_n (by omega)).trans e4
    · exact (mu_n (by omega)).trans e5
    · exact (mu_n (by omega)).trans e6
    · exact (mu_n (by omega)).trans e7
    · exact (mu_n (by omega)).trans e8
    · obtain ⟨m, m1, m2, m3, m4⟩ := hp hk
      exact ⟨m, m1, m2, m3, fun j a b hj ha hb => (mu_n (by omega)).trans (m4 j a b hj ha hb)⟩
def PT (K : Nat → Nat) (V : Nat → Int32) (N : Nat) (lx : Bool) (s : mm_S) : Prop := s 0 8 = nI N ∧ N ≤ 3000 ∧ (∀ j, j < N → s 9 j = nI (K j) ∧ s 11 j = V j) ∧ (∀ j, K j < 100) ∧ (∀ j, N ≤ j → K j = 0) ∧ ((s 0 48 < 0) ↔ lx = true)
def PG (s : mm_S) : List gl_ → Prop
  | [] => True
  | g :: r => (s 39 r.length = nI g.1 ∧ s 40 r.length = nI g.2.1 ∧ s 41 r.length = nI g.2.2.1 ∧ s 42 r.length = nI g.2.2.2) ∧ (g.1 < 100 ∧ g.2.1 < 2 ^ 31 ∧ g.2.2.1 < 2 ^ 31 ∧ g.2.2.2 < 2 ^ 31) ∧ PG s r
def PX (s : mm_S) : List (Int32 × Nat) → Prop
  | [] => True
  | g :: r => s 46 r.length = g.1 ∧ s 47 r.length = nI g.2 ∧ g.2 < 2 ^ 31 ∧ PX s r
def sg_r (t : tr_) : Prop := ∃ k i v l, t = .inner k i v l .leaf
def PO (s : mm_S) : List tr_ → Nat → Prop
  | [], _ => True
  | t :: r, hi => ∃ lo, lo < hi ∧ s 36 r.length = rt_ t ∧ sg_r t ∧ Rp s lo hi t ∧ (ix_ t).Nodup ∧ PO s r lo
def PR (K : Nat → Nat) (V : Nat → Int32) (N : Nat) (lx : Bool) (s : mm_S) : ps_ → Prop
  | (gs, os, p, dp, sc, n) => PT K V N lx s ∧ (s 0 38 = nI gs.length ∧ s 0 37 = nI os.length ∧ s 0 43 = nI p ∧ s 0 44 = nI dp ∧ s 0 45 = nI sc.length ∧ s 0 24 = nI n) ∧ (p ≤ 4000 ∧ dp < 2 ^ 31) ∧ PG s gs ∧ PX s sc ∧ PO s os n
def pq_ (K : Nat → Nat) (V : Nat → Int32) (N : Nat) (lx : Bool) (r : pe_) (o : mm_O) : Prop := match r with
  | none => True
  | some (.ok σ) => ∃ s', o = some (some (vi_ 1), s') ∧ PR K V N lx s' σ
  | some (.error p) => ∃ s', o = some (some (vi_ 0), s') ∧ s' 0 43 = nI p ∧ PT K V N lx s'
section PRrel
variable {K : Nat → Nat} {V : Nat → Int32} {N : Nat} {lx : Bool}
theorem PT_fr {s s' : mm_S} (h : PT K V N lx s) (h8 : s' 0 8 = s 0 8) (h48 : s' 0 48 = s 0 48) (h9 : s' 9 = s 9) (h11 : s' 11 = s 11) : PT K V N lx s' := by
  obtain ⟨a, b, c, e, f, g⟩ := h
  refine ⟨by rw [h8]; exact a, b, fun j hj => by rw [h9, h11]; exact c j hj, e, f, by rw [h48]; exact g⟩
theorem PG_fr {s s' : mm_S} : ∀ {gs : List gl_}, (∀ f j, 39 ≤ f → f ≤ 42 → j < gs.length → s' f j = s f j) → PG s gs → PG s' gs
  | [], _, _ => trivial
  | g :: r, hf, h => by
    obtain ⟨⟨a, b, c, e⟩, q, h⟩ := h
    have hr : r.length < (g :: r).length := by simp
    exact ⟨⟨by rw [hf 39 _ (by omega) (by omega) hr, a], by rw [hf 40 _ (by omega) (by omega) hr, b], by rw [hf 41 _ (by omega) (by omega) hr, c], by rw [hf 42 _ (by omega) (by omega) hr, e]⟩, q, PG_fr (fun f j x y z => hf f j x y (by omega)) h⟩
theorem PX_fr {s s' : mm_S} : ∀ {sc : List (Int32 × Nat)}, (∀ f j, 46 ≤ f → f ≤ 47 → j < sc.length → s' f j = s f j) → PX s sc → PX s' sc
  | [], _, _ => trivial
  | g :: r, hf, h => by
    obtain ⟨a, b, q, h⟩ := h
    have hr : r.length < (g :: r).length := by simp
    exact ⟨by rw [hf 46 _ (by omega) (by omega) hr, a], by rw [hf 47 _ (by omega) (by omega) hr, b], q, PX_fr (fun f j x y z => hf f j x y (by omega)) h⟩
theorem PO_fr {s s' : mm_S} : ∀ {os : List tr_} {n : Nat}, (∀ j, j < os.length → s' 36 j = s 36 j) → (∀ f i, 25 ≤ f → f ≤ 35 → i < n → s' f i = s f i) → PO s os n → PO s' os n
  | [], _, _, _, _ => trivial
  | t :: r, n, h36, hf, h => by
    obtain ⟨lo, a, b, c, e, nd, h⟩ := h
    refine ⟨lo, a, by rw [h36 _ (by simp), b], c, Rp_fr (fun f i x y z => hf f i x y (Rp_ix e i z).2) e, nd, PO_fr (fun j hj => h36 j (by simp; omega)) (fun f i x y z => hf f i x y (by omega)) h⟩
theorem PO_len {s : mm_S} : ∀ {os : List tr_} {n : Nat}, PO s os n → os.length ≤ n
  | [], _, _ => by simp
  | t :: r, n, h => by
    obtain ⟨lo, a, _, _, _, _, h⟩ := h
    have := PO_len h
    simp
    omega
/-- cells outside the parser's rows don't matter -/
theorem PR_u {s : mm_S} {gs os p dp sc n} {f i : Nat} {x : Int32} (h : PR K V N lx s (gs, os, p, dp, sc, n)) (hf : (f = 0 ∧ i ≠ 8 ∧ i ≠ 48 ∧ i ≠ 38 ∧ i ≠ 37 ∧ i ≠ 43 ∧ i ≠ 44 ∧ i ≠ 45 ∧ i ≠ 24)) : PR K V N lx (mm_u s f i x) (gs, os, p, dp, sc, n) := by
  obtain ⟨t, ⟨a1, a2, a3, a4, a5, a6⟩, b, g, c, o⟩ := h
  refine ⟨PT_fr t (mu_n (by omega)) (mu_n (by omega)) (funext fun j => mu_n (by omega)) (funext fun j => mu_n (by omega)), ⟨?_, ?_, ?_, ?_, ?_, ?_⟩, b, PG_fr (fun f j _ _ _ => mu_n (by omega)) g, PX_fr (fun f j _ _ _ => mu_n (by omega)) c, PO_fr (fun j _ => mu_n (by omega)) (fun f j _ _ _ => mu_n (by omega)) o⟩
  all_goals (refine (mu_n (by omega)).trans ?_; assumption)
theorem PR_p {s : mm_S} {gs os p dp sc n} (h : PR K V N lx s (gs, os, p, dp, sc, n)) (p' : Nat) (hp : p' ≤ 4000) : PR K V N lx (mm_u s 0 43 (nI p')) (gs, os, p', dp, sc, n) := by
  obtain ⟨t, ⟨a1, a2, a3, a4, a5, a6⟩, b, g, c, o⟩ := h
  refine ⟨PT_fr t (mu_n (by omega)) (mu_n (by omega)) (funext fun j => mu_n (by omega)) (funext fun j => mu_n (by omega)), ⟨?_, ?_, mu_s, ?_, ?_, ?_⟩, ⟨hp, b.2⟩, PG_fr (fun f j _ _ _ => mu_n (by omega)) g, PX_fr (fun f j _ _ _ => mu_n (by omega)) c, PO_fr (fun j _ => mu_n (by omega)) (fun f j _ _ _ => mu_n (by omega)) o⟩
  all_goals (refine (mu_n (by omega)).trans ?_; assumption)
theorem PR_d {s : mm_S} {gs os p dp sc n} (h : PR K V N lx s (gs, os, p, dp, sc, n)) (d' : Nat) (hp : d' < 2 ^ 31) : PR K V N lx (mm_u s 0 44 (nI d')) (gs, os, p, d', sc, n) := by
  obtain ⟨t, ⟨a1, a2, a3, a4, a5, a6⟩, b, g, c, o⟩ := h
  refine ⟨PT_fr t (mu_n (by omega)) (mu_n (by omega)) (funext fun j => mu_n (by omega)) (funext fun j => mu_n (by omega)), ⟨?_, ?_, ?_, mu_s, ?_, ?_⟩, ⟨b.1, hp⟩, PG_fr (fun f j _ _ _ => mu_n (by omega)) g, PX_fr (fun f j _ _ _ => mu_n (by omega)) c, PO_fr (fun j _ => mu_n (by omega)) (fun f j _ _ _ => mu_n (by omega)) o⟩
  all_goals (refine (mu_n (by omega)).trans ?_; assumption)
end PRrel
