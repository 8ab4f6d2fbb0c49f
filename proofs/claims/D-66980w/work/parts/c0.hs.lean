/-! ===== the component's Translator: the objects it owns ===== -/
/-- a meaning: sort, value, known, taken, of a global, place, routine, results -/
abbrev mn_T : Type := Option Nat × Int32 × Int32 × Int32 × Int32 × Int32 × Option Nat × Option Nat
def MN_ (s : as_) (i : Nat) (v : mn_T) : Prop := aR_ s i 154 = v.1 ∧ aI_ s i 155 = v.2.1 ∧ aI_ s i 156 = v.2.2.1 ∧ aI_ s i 157 = v.2.2.2.1 ∧ aI_ s i 158 = v.2.2.2.2.1 ∧ aI_ s i 159 = v.2.2.2.2.2.1 ∧ aR_ s i 160 = v.2.2.2.2.2.2.1 ∧ aR_ s i 161 = v.2.2.2.2.2.2.2
/-- a routine: code, labels, parameters, words in use, at most, gives -/
abbrev rn_T : Type := List (Int32 × Int32) × Int32 × Int32 × Int32 × Int32 × Int32
def RN_ (s : as_) (i cid cap : Nat) (v : rn_T) : Prop :=
  (aR_ s i 113 = some cid ∧ aI_ s i 114 = nI (2 * v.1.length) ∧ aI_ s i 115 = v.2.1 ∧ aI_ s i 116 = v.2.2.1 ∧ aI_ s i 117 = v.2.2.2.1 ∧ aI_ s i 118 = v.2.2.2.2.1 ∧ aI_ s i 119 = v.2.2.2.2.2) ∧
  (4000 ≤ cid ∧ cid < aN_ s ∧ aK_ s cid = (200, cap)) ∧ (cap % 2 = 0 ∧ 64 ≤ cap ∧ 2 * v.1.length ≤ cap ∧ cap ≤ 64 + 4 * v.1.length ∧ v.1.length < 2 ^ 24) ∧
  ∀ j o a, v.1[j]? = some (o, a) → aI_ s cid (2 * j) = o ∧ aI_ s cid (2 * j + 1) = a
/-- a boxed int -/
def NI_ (s : as_) (a : Nat) (v : Int32) : Prop := (aK_ s a).1 = 20 ∧ a < aN_ s ∧ aI_ s a 8 = v
/-- a row of places of jumps -/
def JR_ (s : as_) : List (Option Nat) → List Nat → Prop
  | [], [] => True
  | r :: rs, n :: ns => (∃ a, r = some a ∧ NI_ s a (nI (2 * n))) ∧ JR_ s rs ns
  | _, _ => False
/-- what the Translator's fields say; scopes' maps (the innermost first); routines; what is around -/
abbrev th_ : Type := ((Nat → Int32) × (Nat → Option Nat)) × (List Nat × List Nat × List (Option Nat)) × (List Nat × (Nat → List Nat)) × (List Nat × (Nat → List ((List Int32 ⊕ Int32) × Option Nat))) × (List Nat × (Nat → mn_T)) × (Nat → rn_T) × (Nat → Int32) × (Nat → Int32)
section hs
variable (x SCL RTL AR DA EA : Nat) (s0 : as_)
def OW_ (a : Nat) : Prop := a = x ∨ a = SCL ∨ a = RTL ∨ a = AR ∨ a = DA ∨ a = EA
def HX_ (s : as_) (X : (Nat → Int32) × (Nat → Option Nat)) : Prop := (4000 ≤ x ∧ x < aN_ s ∧ (aK_ s x).1 = 15) ∧ (∀ f, aI_ s x f = X.1 f) ∧ (∀ f, aR_ s x f = X.2 f) ∧ X.2 169 = some SCL ∧ X.2 170 = some RTL ∧ X.2 171 = some DA ∧ X.2 176 = some EA ∧ X.2 184 = some AR
def ls_c (s : as_) (i : Nat) (l : List (Option Nat)) : Prop := (4000 ≤ i ∧ i < aN_ s ∧ (aK_ s i).1 = 36) ∧ aL_ s i = l ∧ l.length < 2 ^ 24
def HL_ (s : as_) (L : List Nat × List Nat × List (Option Nat)) : Prop := ls_c s SCL (L.1.map some).reverse ∧ ls_c s RTL (L.2.1.map some) ∧ ls_c s AR L.2.2 ∧ SCL ≠ RTL ∧ SCL ≠ AR ∧ RTL ≠ AR
def HJ_ (s : as_) (J : List Nat × (Nat → List Nat)) : Prop := ∀ i ∈ J.1, (aN_ s0 ≤ i ∧ i < aN_ s ∧ (aK_ s i).1 = 36) ∧ (∃ rs, aL_ s i = rs ∧ JR_ s rs (J.2 i)) ∧ (J.2 i).length < 2 ^ 24
def HM_ (s : as_) (M : List Nat × (Nat → List ((List Int32 ⊕ Int32) × Option Nat))) : Prop := ∀ i ∈ M.1, (4000 ≤ i ∧ i < aN_ s ∧ (aK_ s i).1 = 38) ∧ aM_ s i = M.2 i
def HN_ (s : as_) (N : List Nat × (Nat → mn_T)) : Prop := ∀ i ∈ N.1, (4000 ≤ i ∧ i < aN_ s ∧ (aK_ s i).1 = 7) ∧ MN_ s i (N.2 i)
def ph_ (R : Nat → rn_T) (kf : Nat → Nat) (i : Nat) : Nat := 8 * (R i).1.length + 128 - 2 * kf i
def HR_ (s : as_) (rt : List Nat) (R : Nat → rn_T) (Zb : Nat) : Prop := rt.Nodup ∧ ∃ cf kf : Nat → Nat, (∀ i ∈ rt, (aN_ s0 ≤ i ∧ i < aN_ s ∧ (aK_ s i).1 = 11) ∧ aN_ s0 ≤ cf i ∧ RN_ s i (cf i) (kf i) (R i)) ∧ (∀ i ∈ rt, ∀ j ∈ rt, cf i = cf j → i = j) ∧ aZ_ s + (rt.map (ph_ R kf)).sum ≤ Zb
def HD_ (s : as_) (D E : Nat → Int32) : Prop := (4000 ≤ DA ∧ DA < aN_ s0 ∧ aK_ s DA = (200, 1500)) ∧ (4000 ≤ EA ∧ EA < aN_ s0 ∧ aK_ s EA = (200, 100)) ∧ DA ≠ EA ∧ (∀ k, k < 1500 → aI_ s DA k = D k) ∧ (∀ k, k < 100 → aI_ s EA k = E k)
/-- the Translator at work; what stood when it began stays but for its own objects -/
def HS_ (s : as_) (τ : th_) (Cb Zb : Nat) : Prop := HX_ x SCL RTL AR DA EA s τ.1 ∧ HL_ SCL RTL AR s τ.2.1 ∧ HJ_ s0 s τ.2.2.1 ∧ HM_ s τ.2.2.2.1 ∧ HN_ s τ.2.2.2.2.1 ∧ HR_ s0 s τ.2.1.2.1 τ.2.2.2.2.2.1 Zb ∧ HD_ DA EA s0 s τ.2.2.2.2.2.2.1 τ.2.2.2.2.2.2.2 ∧ Kp (OW_ x SCL RTL AR DA EA) s0 s ∧ (aC_ s ≤ Cb ∧ 4000 ≤ aN_ s0 ∧ x < aN_ s0 ∧ SCL < aN_ s0 ∧ RTL < aN_ s0 ∧ AR < aN_ s0)
end hs
section hsl
variable {x SCL RTL AR DA EA : Nat} {s0 s s' : as_} {K : Nat → Prop} {X : (Nat → Int32) × (Nat → Option Nat)} {L : List Nat × List Nat × List (Option Nat)} {J : List Nat × (Nat → List Nat)} {M : List Nat × (Nat → List ((List Int32 ⊕ Int32) × Option Nat))} {N : List Nat × (Nat → mn_T)} {R : Nat → rn_T} {D E : Nat → Int32} {Cb Zb Zc : Nat} {rt : List Nat}
theorem NI_Kp {a : Nat} {v : Int32} (h : NI_ s a v) (hk : Kp K s s') (hc : ∀ a, K a → (aK_ s a).1 ≠ 20) : NI_ s' a v := by
  obtain ⟨h1, h2, h3⟩ := h
  have q := hk.2 a h2 (fun z => hc a z h1)
  exact ⟨by rw [q.2.2.1]; exact h1, by have := hk.1; omega, (q.1 8).trans h3⟩
theorem JR_Kp (hk : Kp K s s') (hc : ∀ a, K a → (aK_ s a).1 ≠ 20) : ∀ {rs : List (Option Nat)} {ns : List Nat}, JR_ s rs ns → JR_ s' rs ns
  | [], [], _ => trivial
  | _ :: _, _ :: _, ⟨⟨a, e, h⟩, h2⟩ => ⟨⟨a, e, NI_Kp h hk hc⟩, JR_Kp hk hc h2⟩
  | [], _ :: _, h => h.elim
  | _ :: _, [], h => h.elim
theorem JR_sn {a n : Nat} (h : NI_ s a (nI (2 * n))) : ∀ {rs : List (Option Nat)} {ns : List Nat}, JR_ s rs ns → JR_ s (rs ++ [some a]) (ns ++ [n])
  | [], [], _ => ⟨⟨a, rfl, h⟩, trivial⟩
  | _ :: _, _ :: _, h2 => ⟨h2.1, JR_sn h h2.2⟩
  | [], _ :: _, h => h.elim
  | _ :: _, [], h => h.elim
theorem JR_len : ∀ {rs : List (Option Nat)} {ns : List Nat}, JR_ s rs ns → rs.length = ns.length
  | [], [], _ => rfl
  | _ :: _, _ :: _, h => by simp [JR_len h.2]
  | [], _ :: _, h => h.elim
  | _ :: _, [], h => h.elim
theorem JR_at : ∀ {rs : List (Option Nat)} {ns : List Nat} {k n : Nat}, JR_ s rs ns → ns[k]? = some n → ∃ a, rs[k]? = some (some a) ∧ NI_ s a (nI (2 * n))
  | [], [], _, _, _, h => by simp at h
  | r :: rs, n :: ns, 0, m, h, e => by
    simp at e
    subst e
    obtain ⟨a, rfl, h1⟩ := h.1
    exact ⟨a, rfl, h1⟩
  | _ :: rs, _ :: ns, k + 1, m, h, e => by
    have := JR_at (k := k) (n := m) h.2 (by simpa using e)
    simpa using this
  | [], _ :: _, _, _, h, _ => h.elim
  | _ :: _, [], _, _, h, _ => h.elim
theorem HX_Kp (h : HX_ x SCL RTL AR DA EA s X) (hk : Kp K s s') (hc : ∀ a, K a → (aK_ s a).1 ≠ 15) : HX_ x SCL RTL AR DA EA s' X := by
  obtain ⟨⟨h1, h2, h3⟩, h4, h5, h6⟩ := h
  have q := hk.2 x h2 (fun z => hc _ z h3)
  exact ⟨⟨h1, by have := hk.1; omega, by rw [q.2.2.1]; exact h3⟩, fun f => (q.1 f).trans (h4 f), fun f => (q.2.1 f).trans (h5 f), h6⟩
theorem ls_Kp {i : Nat} {l : List (Option Nat)} (h : ls_c s i l) (hk : Kp K s s') (hc : ¬ K i) : ls_c s' i l := by
  obtain ⟨⟨h1, h2, h3⟩, h4, h5⟩ := h
  have q := hk.2 i h2 hc
  exact ⟨⟨h1, by have := hk.1; omega, by rw [q.2.2.1]; exact h3⟩, q.2.2.2.2.1.trans h4, h5⟩
theorem HL_Kp (h : HL_ SCL RTL AR s L) (hk : Kp K s s') (hc : ∀ a, K a → (aK_ s a).1 ≠ 36) : HL_ SCL RTL AR s' L := by
  obtain ⟨h1, h2, h3, h4⟩ := h
  exact ⟨ls_Kp h1 hk (fun z => hc _ z h1.1.2.2), ls_Kp h2 hk (fun z => hc _ z h2.1.2.2), ls_Kp h3 hk (fun z => hc _ z h3.1.2.2), h4⟩
theorem HJ_Kp (h : HJ_ s0 s J) (hk : Kp K s s') (hc : ∀ a, K a → (aK_ s a).1 ≠ 20) (hi : ∀ a, K a → a ∉ J.1) : HJ_ s0 s' J := by
  intro i hi'
  obtain ⟨⟨h1, h2, h3⟩, ⟨rs, h4, h5⟩, h6⟩ := h i hi'
  have q := hk.2 i h2 (fun z => hi _ z hi')
  exact ⟨⟨h1, by have := hk.1; omega, by rw [q.2.2.1]; exact h3⟩, ⟨rs, q.2.2.2.2.1.trans h4, JR_Kp hk hc h5⟩, h6⟩
theorem HM_Kp (h : HM_ s M) (hk : Kp K s s') (hc : ∀ a, K a → (aK_ s a).1 ≠ 38) : HM_ s' M := by
  intro i hi
  obtain ⟨⟨h1, h2, h3⟩, h4⟩ := h i hi
  have q := hk.2 i h2 (fun z => hc _ z h3)
  exact ⟨⟨h1, by have := hk.1; omega, by rw [q.2.2.1]; exact h3⟩, q.2.2.2.2.2.trans h4⟩
theorem MN_Kp {i : Nat} {v : mn_T} (h : MN_ s i v) (hk : Kp K s s') (hi : i < aN_ s) (hc : ¬ K i) : MN_ s' i v := by
  obtain ⟨h1, h2, h3, h4, h5, h6, h7, h8⟩ := h
  have q := hk.2 i hi hc
  exact ⟨(q.2.1 _).trans h1, (q.1 _).trans h2, (q.1 _).trans h3, (q.1 _).trans h4, (q.1 _).trans h5, (q.1 _).trans h6, (q.2.1 _).trans h7, (q.2.1 _).trans h8⟩
theorem HN_Kp (h : HN_ s N) (hk : Kp K s s') (hc : ∀ a, K a → (aK_ s a).1 ≠ 7) : HN_ s' N := by
  intro i hi
  obtain ⟨⟨h1, h2, h3⟩, h4⟩ := h i hi
  have q := hk.2 i h2 (fun z => hc _ z h3)
  exact ⟨⟨h1, by have := hk.1; omega, by rw [q.2.2.1]; exact h3⟩, MN_Kp h4 hk h2 (fun z => hc _ z h3)⟩
theorem RN_Kp {i cid cap : Nat} {v : rn_T} (h : RN_ s i cid cap v) (hk : Kp K s s') (hi : i < aN_ s) (hc : ¬ K i) (hc2 : ¬ K cid) : RN_ s' i cid cap v := by
  obtain ⟨⟨a1, a2, a3, a4, a5, a6, a7⟩, ⟨b1, b2, b3⟩, c, d⟩ := h
  have q := hk.2 i hi hc
  have r := hk.2 cid b2 hc2
  exact ⟨⟨(q.2.1 _).trans a1, (q.1 _).trans a2, (q.1 _).trans a3, (q.1 _).trans a4, (q.1 _).trans a5, (q.1 _).trans a6, (q.1 _).trans a7⟩, ⟨b1, by have := hk.1; omega, r.2.2.1.trans b3⟩, c, fun j o a e => ⟨(r.1 _).trans (d j o a e).1, (r.1 _).trans (d j o a e).2⟩⟩
theorem HR_Kp {dz : Nat} (h : HR_ s0 s rt R Zb) (hk : Kp K s s') (hc : ∀ a, K a → (aK_ s a).1 ≠ 11) (hc2 : ∀ a, K a → (aK_ s a).1 ≠ 200 ∨ a < aN_ s0) (hz : aZ_ s' ≤ aZ_ s + dz) : HR_ s0 s' rt R (Zb + dz) := by
  obtain ⟨nd, cf, kf, h1, h2, h3⟩ := h
  refine ⟨nd, cf, kf, fun i hi => ?_, h2, by omega⟩
  obtain ⟨⟨a1, a2, a3⟩, a4, a5⟩ := h1 i hi
  have ni : ¬ K i := fun z => hc _ z a3
  have nc : ¬ K (cf i) := fun z => by
    rcases hc2 _ z with q | q
    · exact q (by rw [a5.2.1.2.2])
    · omega
  have q := hk.2 i a2 ni
  exact ⟨⟨a1, by have := hk.1; omega, by rw [q.2.2.1]; exact a3⟩, a4, RN_Kp a5 hk a2 ni nc⟩
theorem HD_Kp (h : HD_ DA EA s0 s D E) (hk : Kp K s s') (h0 : aN_ s0 ≤ aN_ s) (hc : ∀ a, K a → a ≠ DA ∧ a ≠ EA) : HD_ DA EA s0 s' D E := by
  obtain ⟨⟨a1, a2, a3⟩, ⟨b1, b2, b3⟩, c, d, e⟩ := h
  have q := hk.2 DA (by omega) (fun z => (hc _ z).1 rfl)
  have r := hk.2 EA (by omega) (fun z => (hc _ z).2 rfl)
  exact ⟨⟨a1, a2, q.2.2.1.trans a3⟩, ⟨b1, b2, r.2.2.1.trans b3⟩, c, fun k hk' => (q.1 k).trans (d k hk'), fun k hk' => (r.1 k).trans (e k hk')⟩
theorem HS_d (h : HS_ x SCL RTL AR DA EA s0 s (X, L, J, M, N, R, D, E) Cb Zb) : HX_ x SCL RTL AR DA EA s X ∧ HL_ SCL RTL AR s L ∧ HJ_ s0 s J ∧ HM_ s M ∧ HN_ s N ∧ HR_ s0 s L.2.1 R Zb ∧ HD_ DA EA s0 s D E ∧ Kp (OW_ x SCL RTL AR DA EA) s0 s ∧ (aC_ s ≤ Cb ∧ 4000 ≤ aN_ s0 ∧ x < aN_ s0 ∧ SCL < aN_ s0 ∧ RTL < aN_ s0 ∧ AR < aN_ s0) := h
/-- new objects, and what none of it is -/
theorem HS_Kp {τ : th_} {dc dz : Nat} (h : HS_ x SCL RTL AR DA EA s0 s τ Cb Zb) (hk : Kp K s s') (hK : ∀ a, K a → aN_ s ≤ a) (hc : aC_ s' ≤ aC_ s + dc) (hz : aZ_ s' ≤ aZ_ s + dz) : HS_ x SCL RTL AR DA EA s0 s' τ (Cb + dc) (Zb + dz) := by
  have hk0 : Kp (fun _ => False) s s' := ⟨hk.1, fun a ha _ => hk.2 a ha (fun z => by have := hK a z; omega)⟩
  obtain ⟨h1, h2, h3, h4, h5, h6, h7, h8, h9, h10⟩ := h
  exact ⟨HX_Kp h1 hk0 (fun _ z => z.elim), HL_Kp h2 hk0 (fun _ z => z.elim), HJ_Kp h3 hk0 (fun _ z => z.elim) (fun _ z => z.elim), HM_Kp h4 hk0 (fun _ z => z.elim), HN_Kp h5 hk0 (fun _ z => z.elim), HR_Kp h6 hk0 (fun _ z => z.elim) (fun _ z => z.elim) hz, HD_Kp h7 hk0 h8.1 (fun _ z => z.elim), Kp_tr h8 (Kp_wk hk0 (fun _ _ z => z.elim)), by omega, h10⟩
theorem HS_up {τ : th_} {c z : Nat} (h : HS_ x SCL RTL AR DA EA s0 s τ Cb Zb) (hc : Cb ≤ c) (hz : Zb ≤ z) : HS_ x SCL RTL AR DA EA s0 s τ c z := by
  obtain ⟨h1, h2, h3, h4, h5, ⟨nd, cf, kf, a, b, d⟩, h7, h8, h9, h10⟩ := h
  exact ⟨h1, h2, h3, h4, h5, ⟨nd, cf, kf, a, b, by omega⟩, h7, h8, by omega, h10⟩
/-- a field of the Translator is set -/
theorem HS_xI {f : Nat} {v : Int32} (h : HS_ x SCL RTL AR DA EA s0 s (X, L, J, M, N, R, D, E) Cb Zb) : HS_ x SCL RTL AR DA EA s0 (awI s x f v) ((au_ X.1 f v, X.2), L, J, M, N, R, D, E) Cb Zb := by
  obtain ⟨⟨⟨a1, a2, a3⟩, a4, a5, a6⟩, h2, h3, h4, h5, h6, h7, h8, h9, h10⟩ := h
  have hk : Kp (fun a => a = x) s (awI s x f v) := Kp_I Kp_rf f v (Or.inl rfl)
  have hc : ∀ c, c ≠ 15 → ∀ a, a = x → (aK_ s a).1 ≠ c := fun c hc a e => by subst e; rw [a3]; exact fun q => hc q.symm
  have hD := h7
  obtain ⟨⟨d1, d2, d3⟩, ⟨e1, e2, e3⟩, _⟩ := h7
  refine ⟨⟨⟨a1, a2, a3⟩, fun g => ?_, a5, a6⟩, HL_Kp h2 hk (hc _ (by decide)), HJ_Kp h3 hk (hc _ (by decide)) (fun a e hi => by subst e; have := (h3 _ hi).1.2.2; omega), HM_Kp h4 hk (hc _ (by decide)), HN_Kp h5 hk (hc _ (by decide)), HR_Kp (dz := 0) h6 hk (hc _ (by decide)) (fun a e => Or.inl (hc _ (by decide) a e)) (Nat.le_refl _), HD_Kp hD hk h8.1 (fun a e => ⟨fun q => hc 200 (by decide) a e (by rw [q, d3]), fun q => hc 200 (by decide) a e (by rw [q, e3])⟩), Kp_I h8 f v (Or.inl (Or.inl rfl)), h9, h10⟩
  show aI_ (awI s x f v) x g = au_ X.1 f v g
  rw [aI_awI]
  unfold au_
  by_cases q : g = f
  · rw [if_pos ⟨a1, rfl, q⟩, if_pos q]
  · rw [if_neg (fun z => q z.2.2), if_neg q]; exact a4 g
theorem HS_xR {f : Nat} {v : Option Nat} (h : HS_ x SCL RTL AR DA EA s0 s (X, L, J, M, N, R, D, E) Cb Zb) (hf : 177 ≤ f ∧ f ≤ 181) : HS_ x SCL RTL AR DA EA s0 (awR s x f v) ((X.1, au_ X.2 f v), L, J, M, N, R, D, E) Cb Zb := by
  obtain ⟨⟨⟨a1, a2, a3⟩, a4, a5, b1, b2, b3, b4, b5⟩, h2, h3, h4, h5, h6, h7, h8, h9, h10⟩ := h
  have hk : Kp (fun a => a = x) s (awR s x f v) := Kp_R Kp_rf f v (Or.inl rfl)
  have hc : ∀ c, c ≠ 15 → ∀ a, a = x → (aK_ s a).1 ≠ c := fun c hc a e => by subst e; rw [a3]; exact fun q => hc q.symm
  have hD := h7
  obtain ⟨⟨d1, d2, d3⟩, ⟨e1, e2, e3⟩, _⟩ := h7
  have hu : ∀ g, g ≠ f → au_ X.2 f v g = X.2 g := fun g hg => by unfold au_; rw [if_neg hg]
  refine ⟨⟨⟨a1, a2, a3⟩, a4, fun g => ?_, (hu _ (by omega)).trans b1, (hu _ (by omega)).trans b2, (hu _ (by omega)).trans b3, (hu _ (by omega)).trans b4, (hu _ (by omega)).trans b5⟩, HL_Kp h2 hk (hc _ (by decide)), HJ_Kp h3 hk (hc _ (by decide)) (fun a e hi => by subst e; have := (h3 _ hi).1.2.2; omega), HM_Kp h4 hk (hc _ (by decide)), HN_Kp h5 hk (hc _ (by decide)), HR_Kp (dz := 0) h6 hk (hc _ (by decide)) (fun a e => Or.inl (hc _ (by decide) a e)) (Nat.le_refl _), HD_Kp hD hk h8.1 (fun a e => ⟨fun q => hc 200 (by decide) a e (by rw [q, d3]), fun q => hc 200 (by decide) a e (by rw [q, e3])⟩), Kp_R h8 f v (Or.inl (Or.inl rfl)), h9, h10⟩
  show aR_ (awR s x f v) x g = au_ X.2 f v g
  rw [aR_awR]
  unfold au_
  by_cases q : g = f
  · rw [if_pos ⟨rfl, q⟩, if_pos q]
  · rw [if_neg (fun z => q z.2), if_neg q]; exact a5 g
end hsl
