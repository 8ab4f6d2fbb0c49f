/-! ===== the two parsers side by side: states, outcomes ===== -/
section prs
variable (T : List tk_) (eo : Option Nat) (n : Nat) (V : Nat → Int32) (L : List (List Int32)) (lx : Bool) (ids : List Nat) (iE x TL IL GS SL : Nat)
/-- a row of objects -/
def OL (s : as_) (a : Nat) (its : List Nat) : Prop := (4000 ≤ a ∧ a < aN_ s ∧ (aK_ s a).1 = 36) ∧ aL_ s a = its.map some ∧ its.length < 30000
/-- the component's parser at work -/
def PSt (s : as_) (p dp : Nat) (us : List (List Int32)) (its : List Nat) (gl : List ((List Int32 ⊕ Int32) × Option Nat)) : Prop :=
  CP s x TL IL GS SL p dp ∧ TA s TL ids iE T eo n ∧ SC s SL us ∧ OL s IL its ∧ ((4000 ≤ GS ∧ GS < aN_ s ∧ (aK_ s GS).1 = 41) ∧ aM_ s GS = gl) ∧ TL ≠ IL ∧ TL ≠ SL ∧ IL ≠ SL
/-- what the parser may write -/
def Mx (a : Nat) : Prop := a = x ∨ a = SL ∨ a = IL ∨ a = GS
/-- all its objects lie below -/
def Lw (lo : Nat) : Prop := x < lo ∧ TL < lo ∧ IL < lo ∧ GS < lo ∧ SL < lo
/-- a misreading at a token -/
def Er_ (s0 : as_) (CB ZB e : Nat) (o : cx_O as_) : Prop := ∃ s' i, o = some (.inr i, s') ∧ Mis s' i (nI (tkp T eo n e)) (tkf T eo e) ∧ Kp (Mx x IL GS SL) s0 s' ∧ aN_ s0 ≤ i ∧ aC_ s' ≤ CB ∧ aZ_ s' ≤ ZB
/-- both go on alike, or fail at one token -/
def RL (s0 : as_) (CB ZB : Nat) (o : cx_O as_) (pe : pe_) (Q : ps_ → Option Nat → as_ → Prop) : Prop :=
  (∃ e, e ≤ T.length ∧ pe = some (.error e) ∧ Er_ T eo n x IL GS SL s0 CB ZB e o) ∨ (∃ σ v s', pe = pR_ (Kn T) V T.length lx σ ∧ o = some (.inl (some (vr_ v)), s') ∧ Q σ v s')
/-- the same for what answers nothing -/
def RV (s0 : as_) (CB ZB : Nat) (o : cx_O as_) (pe : pe_) (Q : ps_ → as_ → Prop) : Prop :=
  (∃ e, e ≤ T.length ∧ pe = some (.error e) ∧ Er_ T eo n x IL GS SL s0 CB ZB e o) ∨ (∃ σ s', pe = pR_ (Kn T) V T.length lx σ ∧ o = some (.inl none, s') ∧ Q σ s')
/-- the reference's side has room -/
def Mn (k gs os p dp sc nd : Nat) : Prop := gs ≤ 130 * dp + k ∧ os ≤ nd ∧ p ≤ T.length ∧ dp ≤ 60 ∧ sc ≤ dp ∧ nd + 6 * (T.length - p) + 20 ≤ 20000
/-- the component's side has room -/
def Cn (s : as_) (p CB ZB : Nat) : Prop := aC_ s + 10 * (T.length - p) + 5 ≤ CB ∧ aZ_ s + 100 * (T.length - p) + 60 ≤ ZB
end prs
section prs2
variable {T : List tk_} {eo : Option Nat} {n : Nat} {V : Nat → Int32} {L : List (List Int32)} {lx : Bool} {ids : List Nat} {iE x TL IL GS SL : Nat}
variable {s s0 s1 s' : as_} {p dp CB ZB nd k : Nat} {us : List (List Int32)} {its : List Nat} {gl : List ((List Int32 ⊕ Int32) × Option Nat)} {M : Nat → Prop} {R gs : List gl_} {os : List tr_} {sc : List (Int32 × Nat)} {o : cx_O as_} {pe : pe_} {Q : ps_ → Option Nat → as_ → Prop}
theorem PSt_Lw (h : PSt T eo n ids iE x TL IL GS SL s p dp us its gl) : Lw x TL IL GS SL (aN_ s) := ⟨h.1.1.2.1, h.2.1.1.2.1, h.2.2.2.1.1.2.1, h.2.2.2.2.1.1.2.1, h.2.2.1.1.2.1⟩
theorem Lw_le {lo lo' : Nat} (h : Lw x TL IL GS SL lo) (hl : lo ≤ lo') : Lw x TL IL GS SL lo' := by
  obtain ⟨a, b, c, d, e⟩ := h
  exact ⟨by omega, by omega, by omega, by omega, by omega⟩
theorem PSt_Kp (h : PSt T eo n ids iE x TL IL GS SL s p dp us its gl) (hk : Kp M s s') (hM : ∀ a, M a → (aK_ s a).1 ≠ 26 ∧ (aK_ s a).1 ≠ 14) (hx : ∀ a, M a → a ≠ x ∧ a ≠ TL ∧ a ≠ IL ∧ a ≠ GS ∧ a ≠ SL) : PSt T eo n ids iE x TL IL GS SL s' p dp us its gl := by
  obtain ⟨h1, h2, h3, ⟨⟨i1, i2, i3⟩, i4, i5⟩, ⟨⟨g1, g2, g3⟩, g4⟩, h6⟩ := h
  have qI := hk.2 IL i2 (fun q => (hx _ q).2.2.1 rfl)
  have qG := hk.2 GS g2 (fun q => (hx _ q).2.2.2.1 rfl)
  have hN := hk.1
  exact ⟨CP_Kp h1 hk (fun q => (hx _ q).1 rfl), TA_Kp h2 hk hM (fun q => (hx _ q).2.1 rfl), SC_Kp h3 hk (fun a ha => (hM a ha).1) (fun q => (hx _ q).2.2.2.2 rfl), ⟨⟨i1, by omega, by rw [qI.2.2.1]; exact i3⟩, qI.2.2.2.2.1.trans i4, i5⟩, ⟨⟨g1, by omega, by rw [qG.2.2.1]; exact g3⟩, qG.2.2.2.2.2.trans g4⟩, h6⟩
/-- what is written lies above the parser's objects -/
theorem PSt_hi {lo : Nat} (h : PSt T eo n ids iE x TL IL GS SL s p dp us its gl) (hw : Lw x TL IL GS SL lo) (hk : Kp M s s') (hM : ∀ a, M a → (aK_ s a).1 ≠ 26 ∧ (aK_ s a).1 ≠ 14) (hx : ∀ a, M a → lo ≤ a) : PSt T eo n ids iE x TL IL GS SL s' p dp us its gl :=
  PSt_Kp h hk hM (fun a ha => by
    obtain ⟨w1, w2, w3, w4, w5⟩ := hw
    have := hx a ha
    exact ⟨by omega, by omega, by omega, by omega, by omega⟩)
theorem PSt_x (h : PSt T eo n ids iE x TL IL GS SL s p dp us its gl) {f p' dp' : Nat} {y : Int32} (hc : CP (awI s x f y) x TL IL GS SL p' dp') : PSt T eo n ids iE x TL IL GS SL (awI s x f y) p' dp' us its gl := by
  obtain ⟨h1, h2, h3, h4, h5, h6⟩ := h
  have k3 := h1.1.2.2
  have hk : Kp (fun a => a = x) s (awI s x f y) := Kp_I Kp_rf f y (Or.inl rfl)
  exact ⟨hc, TA_Kp h2 hk (fun a q => by subst q; rw [k3]; decide) (fun q => by have := h2.1.2.2; rw [q, k3] at this; omega), SC_Kp h3 hk (fun a q => by subst q; rw [k3]; decide) (fun q => by have := h3.1.2.2; rw [q, k3] at this; omega), h4, h5, h6⟩
theorem PSt_at (h : PSt T eo n ids iE x TL IL GS SL s p dp us its gl) {p' : Nat} (hp : p' < 30000) : PSt T eo n ids iE x TL IL GS SL (awI s x 94 (nI p')) p' dp us its gl := PSt_x h (CP_at h.1 hp)
theorem PSt_dp (h : PSt T eo n ids iE x TL IL GS SL s p dp us its gl) {d' : Nat} (hp : d' ≤ 60) : PSt T eo n ids iE x TL IL GS SL (awI s x 95 (nI d')) p d' us its gl := PSt_x h (CP_dp h.1 hp)
/-- one more item -/
theorem PSt_it (h : PSt T eo n ids iE x TL IL GS SL s p dp us its gl) (a : Nat) (hl : its.length + 1 < 30000) : PSt T eo n ids iE x TL IL GS SL (al_add s IL (some a)) p dp us (its ++ [a]) gl := by
  obtain ⟨h1, h2, h3, ⟨⟨i1, i2, i3⟩, i4, i5⟩, h5, h6, h7, h8⟩ := h
  have hk : Kp (fun a => a = IL) s (al_add s IL (some a)) := Kp_L Kp_rf _ (Or.inl rfl)
  have k3 := h1.1.2.2
  refine ⟨CP_Kp h1 hk (fun q => by rw [q, i3] at k3; omega), TA_Kp h2 hk (fun a q => by subst q; rw [i3]; decide) h6, SC_Kp h3 hk (fun a q => by subst q; rw [i3]; decide) (fun q => h8 q.symm), ⟨⟨i1, i2, i3⟩, ?_, by simp; omega⟩, h5, h6, h7, h8⟩
  show aL_ (awL s IL _) IL = _
  rw [aL_awL, if_pos rfl, i4, List.map_append]
  rfl
theorem it_Kp (a : Nat) : Kp (Mx x IL GS SL) s (al_add s IL (some a)) := Kp_L Kp_rf _ (Or.inl (Or.inr (Or.inr (Or.inl rfl))))
theorem x_Kp (f : Nat) (y : Int32) : Kp (Mx x IL GS SL) s (awI s x f y) := Kp_I Kp_rf f y (Or.inl (Or.inl rfl))
theorem Mx_cl (h : PSt T eo n ids iE x TL IL GS SL s p dp us its gl) : ∀ a, Mx x IL GS SL a → (aK_ s a).1 ≠ 26 ∧ (aK_ s a).1 ≠ 14 := by
  intro a ha
  obtain ⟨h1, _, h3, h4, h5, _⟩ := h
  rcases ha with rfl | rfl | rfl | rfl
  · rw [h1.1.2.2]; decide
  · rw [h3.1.2.2]; decide
  · rw [h4.1.2.2]; decide
  · rw [h5.1.2.2]; decide
theorem Mx_lt {lo : Nat} (h : Lw x TL IL GS SL lo) : ∀ a, Mx x IL GS SL a → a < lo := by
  intro a ha
  obtain ⟨w1, w2, w3, w4, w5⟩ := h
  rcases ha with rfl | rfl | rfl | rfl <;> assumption
/-- a tree made since lo stays as it is while the parser goes on -/
theorem TG_Mx {lo : Nat} {c : cr_} (h : TG s lo c) (hP : PSt T eo n ids iE x TL IL GS SL s p dp us its gl) (hw : Lw x TL IL GS SL lo) (hk : Kp (Mx x IL GS SL) s s') : TG s' lo c := TG_Kp h hk (Mx_cl hP) (fun a ha q => by
  have := Mx_lt hw a q
  have := h.2.2 a ha
  omega)
theorem RL_bind {o1 : cx_O as_} {Q1 : ps_ → Option Nat → as_ → Prop} {Kc : Option Nat → as_ → cx_O as_} (h : RL T eo n V lx x IL GS SL s1 CB ZB o1 pe Q1) (hk : Kp (Mx x IL GS SL) s0 s1) (hQ : ∀ σ v s', Q1 σ v s' → RL T eo n V lx x IL GS SL s0 CB ZB (Kc v s') (pR_ (Kn T) V T.length lx σ) Q) : RL T eo n V lx x IL GS SL s0 CB ZB (cx_bR cx_th o1 Kc) pe Q := by
  rcases h with ⟨e, he, h1, s', i, h2, h3, h4, h5⟩ | ⟨σ, v, s', h1, h2, h3⟩
  · subst h2
    exact Or.inl ⟨e, he, h1, s', i, rfl, h3, Kp_tr hk h4, Nat.le_trans hk.1 h5.1, h5.2⟩
  · subst h2
    rw [h1]
    exact hQ σ v s' h3
theorem RL_bindV {o1 : cx_O as_} {Q1 : ps_ → as_ → Prop} {Kc : as_ → cx_O as_} (h : RV T eo n V lx x IL GS SL s1 CB ZB o1 pe Q1) (hk : Kp (Mx x IL GS SL) s0 s1) (hQ : ∀ σ s', Q1 σ s' → RL T eo n V lx x IL GS SL s0 CB ZB (Kc s') (pR_ (Kn T) V T.length lx σ) Q) : RL T eo n V lx x IL GS SL s0 CB ZB (cx_bV cx_th o1 Kc) pe Q := by
  rcases h with ⟨e, he, h1, s', i, h2, h3, h4, h5⟩ | ⟨σ, s', h1, h2, h3⟩
  · subst h2
    exact Or.inl ⟨e, he, h1, s', i, rfl, h3, Kp_tr hk h4, Nat.le_trans hk.1 h5.1, h5.2⟩
  · subst h2
    rw [h1]
    exact hQ σ s' h3
theorem WR_Er {c z : Nat} {e : Nat} (h : WR c z (fun _ => False) s o (nI (tkp T eo n e)) (tkf T eo e)) (hk : Kp (Mx x IL GS SL) s0 s) (hc : aC_ s + c ≤ CB) (hz : aZ_ s + z ≤ ZB) : Er_ T eo n x IL GS SL s0 CB ZB e o := by
  obtain ⟨s', i, h1, h2, h3, h4, h5, h6⟩ := h
  exact ⟨s', i, h1, h3, Kp_tr hk (Kp_wk h4 (fun _ _ q => q.elim)), Nat.le_trans hk.1 h2, by omega, by omega⟩
/-- here it fails -/
theorem RL_fail (d : Nat) (hP : PSt T eo n ids iE x TL IL GS SL s p dp us its gl) (hp : p ≤ T.length) (hk : Kp (Mx x IL GS SL) s0 s) (hC : Cn T s p CB ZB) (hpe : pe = some (.error p)) : RL T eo n V lx x IL GS SL s0 CB ZB ((a_dp 276 (some x) s).bind fun m => cx_bR cx_th (aE (d + 3) m [vr_ (some x)] s) fun v s' => cx_at cx_th v s') pe Q :=
  Or.inl ⟨p, hp, hpe, WR_Er (y_fail d hP.1 hP.2.1 hp) hk (by have := hC.1; omega) (by have := hC.2; omega)⟩
/-- it must be this token -/
theorem RL_must (d : Nat) {c kk : Nat} {Kc : Option Nat → as_ → cx_O as_} (hP : PSt T eo n ids iE x TL IL GS SL s p dp us its gl) (hp : p ≤ T.length) (hc : ak_K c = (26, 0)) (hc3 : c < 3000) (hg : gdk_ c kk = true) (hk : Kp (Mx x IL GS SL) s0 s) (hC : Cn T s p CB ZB) (hpe : Kn T p ≠ kk → pe = some (.error p)) (hQ : Kn T p = kk → ∀ i ln, CT s i (tkk T eo p) (nI (tkp T eo n p)) ln (tkv T p) (tkx T p) (tkg T p) → RL T eo n V lx x IL GS SL s0 CB ZB (Kc (some i) (awI s x 94 (nI (p + 1)))) pe Q) : RL T eo n V lx x IL GS SL s0 CB ZB ((a_dp 278 (some x) s).bind fun m => cx_bR cx_th (aE (d + 4) m [vr_ (some x), vr_ (some c)] s) Kc) pe Q := by
  have hm := y_must d hP.1 hP.2.1 hp hc hc3 hg
  rw [f_dp (f := 278) hP.1.1.2.2 rfl, Option.bind_some]
  by_cases q : Kn T p = kk
  · rw [if_pos q] at hm
    obtain ⟨i, ln, e, t⟩ := hm
    rw [e, cR_k]
    exact hQ q i ln t
  · rw [if_neg q] at hm
    obtain ⟨s', i, e, w⟩ := id hm
    refine Or.inl ⟨p, hp, hpe q, ?_⟩
    have := WR_Er hm hk (CB := CB) (ZB := ZB) (by have := hC.1; omega) (by have := hC.2; omega)
    obtain ⟨s2, i2, e2, r⟩ := this
    exact ⟨s2, i2, by rw [e2]; rfl, r⟩
/-- it must be a name -/
theorem RL_name (d : Nat) {Kc : Option Nat → as_ → cx_O as_} (hP : PSt T eo n ids iE x TL IL GS SL s p dp us its gl) (hp : p ≤ T.length) (hk : Kp (Mx x IL GS SL) s0 s) (hC : Cn T s p CB ZB) (hpe : Kn T p ≠ 1 → pe = some (.error p)) (hQ : Kn T p = 1 → ∀ i ln, CT s i (tkk T eo p) (nI (tkp T eo n p)) ln (tkv T p) (tkx T p) (tkg T p) → RL T eo n V lx x IL GS SL s0 CB ZB (Kc (some i) (awI s x 94 (nI (p + 1)))) pe Q) : RL T eo n V lx x IL GS SL s0 CB ZB ((a_dp 279 (some x) s).bind fun m => cx_bR cx_th (aE (d + 4) m [vr_ (some x)] s) Kc) pe Q := by
  have hm := y_name d hP.1 hP.2.1 hp
  rw [f_dp (f := 279) hP.1.1.2.2 rfl, Option.bind_some]
  by_cases q : Kn T p = 1
  · rw [if_pos q] at hm
    obtain ⟨i, ln, e, t⟩ := hm
    rw [e, cR_k]
    exact hQ q i ln t
  · rw [if_neg q] at hm
    have := WR_Er hm hk (CB := CB) (ZB := ZB) (by have := hC.1; omega) (by have := hC.2; omega)
    obtain ⟨s2, i2, e2, r⟩ := this
    exact Or.inl ⟨p, hp, hpe q, s2, i2, by rw [e2]; rfl, r⟩
/-- one more within others -/
theorem RL_enter (d : Nat) {Kc : as_ → cx_O as_} (hP : PSt T eo n ids iE x TL IL GS SL s p dp us its gl) (hp : p ≤ T.length) (hk : Kp (Mx x IL GS SL) s0 s) (hC : Cn T s p CB ZB) (hpe : dp = 60 → pe = some (.error p)) (hQ : dp ≠ 60 → RL T eo n V lx x IL GS SL s0 CB ZB (Kc (awI s x 95 (nI (dp + 1)))) pe Q) : RL T eo n V lx x IL GS SL s0 CB ZB ((a_dp 275 (some x) s).bind fun m => cx_bV cx_th (aE (d + 4) m [vr_ (some x)] s) Kc) pe Q := by
  have hm := y_enter d hP.1 hP.2.1 hp
  rw [f_dp (f := 275) hP.1.1.2.2 rfl, Option.bind_some]
  by_cases q : dp = 60
  · rw [if_pos q] at hm
    have := WR_Er hm hk (CB := CB) (ZB := ZB) (by have := hC.1; omega) (by have := hC.2; omega)
    obtain ⟨s2, i2, e2, r⟩ := this
    exact Or.inl ⟨p, hp, hpe q, s2, i2, by rw [e2]; rfl, r⟩
  · rw [if_neg q] at hm
    rw [hm, cV_k]
    exact hQ q
/-- is it this token -/
theorem C_is (d : Nat) {c kk : Nat} {Kc : Int32 → as_ → cx_O as_} (hP : PSt T eo n ids iE x TL IL GS SL s p dp us its gl) (hp : p ≤ T.length) (hc : ak_K c = (26, 0)) (hc3 : c < 3000) (hg : gdk_ c kk = true) : ((a_dp 271 (some x) s).bind fun m => cx_bI cx_th (aE (d + 3) m [vr_ (some x), vr_ (some c)] s) Kc) = Kc (zb_ (decide (Kn T p = kk))) s := by
  rw [f_dp (f := 271) hP.1.1.2.2 rfl, Option.bind_some, y_is d hP.1 hP.2.1 hp hc hc3 hg, cI_k]
theorem C_skip (d : Nat) {c kk : Nat} {Kc : Int32 → as_ → cx_O as_} (hP : PSt T eo n ids iE x TL IL GS SL s p dp us its gl) (hp : p ≤ T.length) (hc : ak_K c = (26, 0)) (hc3 : c < 3000) (hg : gdk_ c kk = true) : ((a_dp 290 (some x) s).bind fun m => cx_bI cx_th (aE (d + 4) m [vr_ (some x), vr_ (some c)] s) Kc) = if Kn T p = kk then Kc 1 (awI s x 94 (nI (p + 1))) else Kc 0 s := by
  rw [f_dp (f := 290) hP.1.1.2.2 rfl, Option.bind_some, y_skip d hP.1 hP.2.1 hp hc hc3 hg]
  by_cases q : Kn T p = kk
  · rw [if_pos q, if_pos q, cI_k]
  · rw [if_neg q, if_neg q, cI_k]
theorem C_take (d : Nat) {Kc : Option Nat → as_ → cx_O as_} (hP : PSt T eo n ids iE x TL IL GS SL s p dp us its gl) (hp : p ≤ T.length) : ∃ i ln, CT s i (tkk T eo p) (nI (tkp T eo n p)) ln (tkv T p) (tkx T p) (tkg T p) ∧ ((a_dp 274 (some x) s).bind fun m => cx_bR cx_th (aE (d + 2) m [vr_ (some x)] s) Kc) = Kc (some i) (awI s x 94 (nI (p + 1))) := by
  obtain ⟨i, ln, e, t⟩ := y_take d hP.1 hP.2.1 hp
  exact ⟨i, ln, t, by rw [f_dp (f := 274) hP.1.1.2.2 rfl, Option.bind_some, e, cR_k]⟩
theorem C_peek (d : Nat) {Kc : Option Nat → as_ → cx_O as_} (hP : PSt T eo n ids iE x TL IL GS SL s p dp us its gl) (hp : p ≤ T.length) : ∃ i ln, CT s i (tkk T eo p) (nI (tkp T eo n p)) ln (tkv T p) (tkx T p) (tkg T p) ∧ ((a_dp 272 (some x) s).bind fun m => cx_bR cx_th (aE (d + 2) m [vr_ (some x)] s) Kc) = Kc (some i) s := by
  obtain ⟨i, ln, e, t⟩ := y_peek d hP.1 hP.2.1 hp
  exact ⟨i, ln, t, by rw [f_dp (f := 272) hP.1.1.2.2 rfl, Option.bind_some, e, cR_k]⟩
theorem C_dp (hP : PSt T eo n ids iE x TL IL GS SL s p dp us its gl) {Kc : Int32 → cx_O as_} : ((a_gi 95 (some x) s).bind Kc) = Kc (nI dp) := by
  rw [f_gi (f := 95) hP.1.1.2.2 rfl, Option.bind_some, hP.1.2.2.2.1]
theorem C_dps (hP : PSt T eo n ids iE x TL IL GS SL s p dp us its gl) {y : Int32} {Kc : as_ → cx_O as_} : ((a_pi 95 (some x) y s).bind Kc) = Kc (awI s x 95 y) := by
  rw [f_pi (f := 95) hP.1.1.2.2 rfl rfl, Option.bind_some]
/-- depth back -/
theorem C_less (hP : PSt T eo n ids iE x TL IL GS SL s p (dp + 1) us its gl) {Kc : as_ → cx_O as_} : ((a_gi 95 (some x) s).bind fun v => (a_pi 95 (some x) (v - 1) s).bind Kc) = Kc (awI s x 95 (nI dp)) := by
  rw [C_dp hP, C_dps hP]
  rw [show (nI (dp + 1) - 1 : Int32) = nI dp from nI_pred _]
/-! the reference's steps -/
theorem Mn_pb (h : Mn T k gs.length os.length p dp sc.length nd) (hk : k ≤ 1000) (hT : T.length < 20000) {x y z : Nat} (hx : x < 2 ^ 26) (hy : y < 2 ^ 26) (hz : z < 2 ^ 26) : pb_ T.length gs sc p dp nd x y z = true := by
  obtain ⟨a, b, c, d, e, f⟩ := h
  unfold pb_
  simp only [decide_eq_true_eq]
  omega
theorem pR_ok {g a b c : Nat} {σ : ps_} (hb : pb_ T.length gs sc p dp nd a b c = true) (h : pS_ (Kn T) V T.length lx g a b c (gs, os, p, dp, sc, nd) = some (.ok σ)) : pR_ (Kn T) V T.length lx ((g, a, b, c) :: gs, os, p, dp, sc, nd) = pR_ (Kn T) V T.length lx σ := by
  rw [pR_eq]
  show (match pb_ T.length gs sc p dp nd a b c with
    | false => none
    | true => match pS_ (Kn T) V T.length lx g a b c (gs, os, p, dp, sc, nd) with
      | none => none
      | some (.error e) => some (Except.error e)
      | some (.ok σ) => pR_ (Kn T) V T.length lx σ) = _
  rw [hb, h]
theorem pR_er {g a b c e : Nat} (hb : pb_ T.length gs sc p dp nd a b c = true) (h : pS_ (Kn T) V T.length lx g a b c (gs, os, p, dp, sc, nd) = some (.error e)) : pR_ (Kn T) V T.length lx ((g, a, b, c) :: gs, os, p, dp, sc, nd) = some (.error e) := by
  rw [pR_eq]
  show (match pb_ T.length gs sc p dp nd a b c with
    | false => none
    | true => match pS_ (Kn T) V T.length lx g a b c (gs, os, p, dp, sc, nd) with
      | none => none
      | some (.error e) => some (Except.error e)
      | some (.ok σ) => pR_ (Kn T) V T.length lx σ) = _
  rw [hb, h]
end prs2
