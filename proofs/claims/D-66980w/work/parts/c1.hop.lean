/-! ===== the component's Translator: instructions are written ===== -/
section hop
variable {x SCL RTL AR DA EA : Nat} {s0 s s' : as_} {K : Nat → Prop} {X : (Nat → Int32) × (Nat → Option Nat)} {L : List Nat × List Nat × List (Option Nat)} {J : List Nat × (Nat → List Nat)} {M : List Nat × (Nat → List ((List Int32 ⊕ Int32) × Option Nat))} {N : List Nat × (Nat → mn_T)} {R : Nat → rn_T} {D E : Nat → Int32} {Cb Zb Zc i : Nat} {rt : List Nat}
theorem kxf {c d e : Nat} (h : (aK_ s i).1 = c) (h2 : aK_ s i = (d, e)) (hn : d ≠ c) : False := by rw [h2] at h; exact hn h
theorem nI_mul (a b : Nat) : nI a * nI b = nI (a * b) := (Int32.ofNat_mul a b).symm
theorem f_an {c n : Nat} (h : aK_ s i = (c, n)) (hc : (Nat.ble 200 c && Nat.ble c 212) = true) : a_an (some i) s = some (nI n) := by
  unfold a_an
  dsimp only
  rw [h]
  dsimp only
  rw [hc]
  rfl
theorem f_na (t : Nat) {n : Nat} (h : n < 2 ^ 31) : a_na t (nI n) s = some (aN_ s, awC (anew s (t, n)) 1 n) := by
  unfold a_na
  rw [if_neg (nI_pos h), nI_clamp h]
theorem sum_le0 {f g : Nat → Nat} : ∀ {rt : List Nat}, (∀ j ∈ rt, f j ≤ g j) → (rt.map f).sum ≤ (rt.map g).sum
  | [], _ => Nat.le_refl _
  | a :: r, h => by
    simp only [List.map_cons, List.sum_cons]
    have h1 := sum_le0 (rt := r) (fun j hj => h j (by simp [hj]))
    have h2 := h a (by simp)
    omega
theorem sum_au {f g : Nat → Nat} {c : Nat} : ∀ {rt : List Nat}, rt.Nodup → (∀ j ∈ rt, j ≠ i → f j ≤ g j) → f i ≤ g i + c → (rt.map f).sum ≤ (rt.map g).sum + c
  | [], _, _, _ => Nat.zero_le _
  | a :: r, hn, hf, hi => by
    simp only [List.nodup_cons] at hn
    simp only [List.map_cons, List.sum_cons]
    by_cases ha : a = i
    · subst ha
      have := sum_le0 (rt := r) (fun j hj => hf j (by simp [hj]) (fun q => hn.1 (q ▸ hj)))
      omega
    · have h1 := sum_au (rt := r) hn.2 (fun j hj => hf j (by simp [hj])) hi
      have h2 := hf a (by simp) ha
      omega
theorem sum_le {f g : Nat → Nat} : ∀ {rt : List Nat}, (∀ j ∈ rt, f j ≤ g j) → (rt.map f).sum ≤ (rt.map g).sum
  | [], _ => Nat.le_refl _
  | a :: r, h => by
    simp only [List.map_cons, List.sum_cons]
    have h1 := sum_le (rt := r) (fun j hj => h j (by simp [hj]))
    have h2 := h a (by simp)
    omega
theorem sum_dn {f g : Nat → Nat} {c : Nat} : ∀ {rt : List Nat}, rt.Nodup → i ∈ rt → (∀ j ∈ rt, j ≠ i → f j ≤ g j) → f i + c ≤ g i → (rt.map f).sum + c ≤ (rt.map g).sum
  | [], _, hi, _, _ => by simp at hi
  | a :: r, hn, hi, hf, hc => by
    simp only [List.nodup_cons] at hn
    simp only [List.map_cons, List.sum_cons]
    by_cases ha : a = i
    · subst ha
      have := sum_le (rt := r) (fun j hj => hf j (by simp [hj]) (fun q => hn.1 (q ▸ hj)))
      omega
    · have h1 := sum_dn (rt := r) hn.2 (by simpa [Ne.symm ha] using hi) (fun j hj => hf j (by simp [hj])) hc
      have h2 := hf a (by simp) ha
      omega
/-- a routine's fields are set -/
theorem HS_rt {r' : rn_T} (h : HS_ x SCL RTL AR DA EA s0 s (X, L, J, M, N, R, D, E) Cb Zb) (hk : Kp (fun a => a = i) s s') (hi : i ∈ L.2.1) (hK : aK_ s' i = aK_ s i) (ec : aC_ s' = aC_ s) (ez : aZ_ s' = aZ_ s) (hl : r'.1 = (R i).1) (hr : ∀ cid cap, RN_ s i cid cap (R i) → RN_ s' i cid cap r') : HS_ x SCL RTL AR DA EA s0 s' (X, L, J, M, N, au_ R i r', D, E) Cb Zb := by
  obtain ⟨h1, h2, h3, h4, h5, ⟨nd, cf, kf, g1, g2, g3⟩, h7, h8, h9, h10⟩ := HS_d h
  obtain ⟨⟨a1, a2, a3⟩, _, _⟩ := g1 i hi
  have hc : ∀ c, c ≠ 11 → ∀ a, a = i → (aK_ s a).1 ≠ c := fun c hc a e => by subst e; rw [a3]; exact fun q => hc q.symm
  have hD := h7
  obtain ⟨⟨d1, d2, d3⟩, ⟨e1, e2, e3⟩, _⟩ := h7
  have hb : aN_ s0 ≤ aN_ s := h8.1
  refine ⟨HX_Kp h1 hk (hc _ (by decide)), HL_Kp h2 hk (hc _ (by decide)), HJ_Kp h3 hk (hc _ (by decide)) (fun a e hi => by subst e; have := (h3 _ hi).1.2.2; omega), HM_Kp h4 hk (hc _ (by decide)), HN_Kp h5 hk (hc _ (by decide)), ⟨nd, cf, kf, fun j hj => ?_, g2, ?_⟩, HD_Kp hD hk hb (fun a e => ⟨fun q => hc 200 (by decide) a e (by rw [q, d3]), fun q => hc 200 (by decide) a e (by rw [q, e3])⟩), Kp_in h8 hk (fun a e => Or.inr (by subst e; exact a1)), by rw [ec]; exact h9, h10⟩
  · obtain ⟨⟨b1, b2, b3⟩, b4, b5⟩ := g1 j hj
    by_cases q : j = i
    · subst q
      have z := hk.1
      refine ⟨⟨b1, by omega, by rw [hK]; exact b3⟩, b4, ?_⟩
      show RN_ s' j (cf j) (kf j) (au_ R j r' j)
      unfold au_
      rw [if_pos rfl]
      exact hr _ _ b5
    · have z := hk.2 j b2 q
      refine ⟨⟨b1, by have := hk.1; omega, by rw [z.2.2.1]; exact b3⟩, b4, ?_⟩
      show RN_ s' j (cf j) (kf j) (au_ R i r' j)
      unfold au_
      rw [if_neg q]
      exact RN_Kp b5 hk b2 q (fun z => kxf a3 (z ▸ b5.2.1.2.2) (by decide))
  · rw [ez]
    refine Nat.le_trans (Nat.add_le_add_left (sum_au (i := i) (c := 0) nd (fun j _ hj => ?_) ?_) _) g3
    · show 8 * (au_ R i r' j).1.length + 128 - 2 * kf j ≤ 8 * (R j).1.length + 128 - 2 * kf j
      unfold au_
      rw [if_neg hj]
      exact Nat.le_refl _
    · show 8 * (au_ R i r' i).1.length + 128 - 2 * kf i ≤ 8 * (R i).1.length + 128 - 2 * kf i + 0
      unfold au_
      rw [if_pos rfl, hl]
      exact Nat.le_refl _
theorem HS_ri (h : HS_ x SCL RTL AR DA EA s0 s (X, L, J, M, N, R, D, E) Cb Zb) (hi : i ∈ L.2.1) : (4000 ≤ i ∧ i < aN_ s ∧ (aK_ s i).1 = 11) ∧ aI_ s i 115 = (R i).2.1 ∧ aI_ s i 116 = (R i).2.2.1 ∧ aI_ s i 117 = (R i).2.2.2.1 ∧ aI_ s i 118 = (R i).2.2.2.2.1 ∧ aI_ s i 119 = (R i).2.2.2.2.2 := by
  obtain ⟨_, _, _, _, _, ⟨_, cf, kf, g1, _, _⟩, _, _, _, h4, _⟩ := h
  obtain ⟨⟨a1, a2, a3⟩, _, ⟨_, _, b1, b2, b3, b4, b5⟩, _⟩ := g1 i hi
  exact ⟨⟨by omega, a2, a3⟩, b1, b2, b3, b4, b5⟩
/-- int fields of a routine -/
theorem RN_f (f : Nat) (v : Int32) {cid cap : Nat} {r : rn_T} (h : RN_ s i cid cap r) (hi : 4000 ≤ i) (hne : cid ≠ i) (hf : 115 ≤ f ∧ f ≤ 119) : RN_ (awI s i f v) i cid cap (r.1, (if f = 115 then v else r.2.1), (if f = 116 then v else r.2.2.1), (if f = 117 then v else r.2.2.2.1), (if f = 118 then v else r.2.2.2.2.1), (if f = 119 then v else r.2.2.2.2.2)) := by
  obtain ⟨⟨a1, a2, a3, a4, a5, a6, a7⟩, b, c, d⟩ := h
  have e : ∀ k w, aI_ s i k = w → aI_ (awI s i f v) i k = if f = k then v else w := fun k w hw => by
    rw [aI_awI]
    by_cases q : f = k
    · rw [if_pos ⟨hi, rfl, q.symm⟩, if_pos q]
    · rw [if_neg (fun z => q z.2.2.symm), if_neg q]; exact hw
  refine ⟨⟨a1, ?_, e _ _ a3, e _ _ a4, e _ _ a5, e _ _ a6, e _ _ a7⟩, b, c, fun j o a q => ?_⟩
  · rw [e _ _ a2, if_neg (by omega)]
  · rw [aI_awI, if_neg (fun z => hne z.2.1), aI_awI, if_neg (fun z => hne z.2.1)]
    exact d j o a q
theorem HS_rI (f : Nat) (v : Int32) (h : HS_ x SCL RTL AR DA EA s0 s (X, L, J, M, N, R, D, E) Cb Zb) (hi : i ∈ L.2.1) (hf : 115 ≤ f ∧ f ≤ 119) : HS_ x SCL RTL AR DA EA s0 (awI s i f v) (X, L, J, M, N, au_ R i ((R i).1, (if f = 115 then v else (R i).2.1), (if f = 116 then v else (R i).2.2.1), (if f = 117 then v else (R i).2.2.2.1), (if f = 118 then v else (R i).2.2.2.2.1), (if f = 119 then v else (R i).2.2.2.2.2)), D, E) Cb Zb := by
  have hi' := (HS_ri h hi).1
  exact HS_rt h (Kp_I Kp_rf f v (Or.inl rfl)) hi rfl rfl rfl rfl (fun cid cap hR => RN_f f v hR hi'.1 (fun q => kxf hi'.2.2 (q ▸ hR.2.1.2.2) (by decide)) hf)
theorem au_s {α : Type} (f : Nat → α) (k : Nat) (x : α) : au_ f k x k = x := by unfold au_; rw [if_pos rfl]
theorem au_n {α : Type} {f : Nat → α} {k j : Nat} {x : α} (h : j ≠ k) : au_ f k x j = f j := by unfold au_; rw [if_neg h]
theorem au_au {α : Type} (f : Nat → α) (k : Nat) (x y : α) : au_ (au_ f k x) k y = au_ f k y := by
  funext j
  unfold au_
  split <;> rfl
theorem au_self {α : Type} (f : Nat → α) (k : Nat) : au_ f k (f k) = f := by
  funext j
  unfold au_
  split
  · rename_i h; rw [h]
  · rfl
/-- so many words more are in use -/
theorem h_use (d : Nat) {n : Int32} (h : HS_ x SCL RTL AR DA EA s0 s (X, L, J, M, N, R, D, E) Cb Zb) (hi : i ∈ L.2.1) : ∃ s', aE (d + 2) 311 [vr_ (some i), vi_ n] s = some (.inl none, s') ∧ HS_ x SCL RTL AR DA EA s0 s' (X, L, J, M, N, au_ R i ((R i).1, (R i).2.1, (R i).2.2.1, (R i).2.2.2.1 + n, (if (R i).2.2.2.2.1 < (R i).2.2.2.1 + n then (R i).2.2.2.1 + n else (R i).2.2.2.2.1), (R i).2.2.2.2.2), D, E) Cb Zb := by
  obtain ⟨⟨a1, a2, a3⟩, b1, b2, b3, b4, b5⟩ := HS_ri h hi
  have h2 := HS_rI 117 ((R i).2.2.2.1 + n) h hi (by omega)
  obtain ⟨⟨c1, c2, c3⟩, d1, d2, d3, d4, d5⟩ := HS_ri h2 hi
  rw [au_s] at d3 d4
  have e3 : aI_ (awI s i 117 ((R i).2.2.2.1 + n)) i 117 = (R i).2.2.2.1 + n := d3
  have e4 : aI_ (awI s i 117 ((R i).2.2.2.1 + n)) i 118 = (R i).2.2.2.2.1 := d4
  have h3 := HS_rI 118 (if (R i).2.2.2.2.1 < (R i).2.2.2.1 + n then (R i).2.2.2.1 + n else (R i).2.2.2.2.1) h2 hi (by omega)
  rw [au_au, au_s] at h3
  refine ⟨_, ?_, h3⟩
  rw [ce_X16_use, f_gi (f := 117) a3 rfl, Option.bind_some, b3, f_pi (f := 117) a3 rfl rfl, Option.bind_some, f_gi (f := 118) c3 rfl, Option.bind_some, e4, f_gi (f := 117) c3 rfl, Option.bind_some, e3, l_max, cI_k, f_pi (f := 118) c3 rfl rfl, Option.bind_some]
/-- the row of a routine's code has room for one more -/
theorem h_room (d : Nat) {o a : Int32} (h : HS_ x SCL RTL AR DA EA s0 s (X, L, J, M, N, R, D, E) Cb Zb) (hi : i ∈ L.2.1) (hl : (R i).1.length + 1 < 2 ^ 24) : ∃ s1, aE (d + 2) 312 [vr_ (some i), vi_ o, vi_ a] s = aJ (d + 2) 312 43 [vr_ (some i), vi_ o, vi_ a] [] s1 ∧ HS_ x SCL RTL AR DA EA s0 s1 (X, L, J, M, N, R, D, E) (Cb + 1) Zb ∧ ∃ cid cap, aR_ s1 i 113 = some cid ∧ aK_ s1 cid = (200, cap) ∧ 2 * (R i).1.length + 2 ≤ cap := by
  obtain ⟨h1, h2, h3, h4, h5, ⟨nd, cf, kf, g1, g2, g3⟩, h7, h8, h9, h10⟩ := HS_d h
  obtain ⟨⟨a1, a2, a3⟩, a4, hR⟩ := g1 i hi
  obtain ⟨⟨r1, r2, r3, r4, r5, r6, r7⟩, ⟨k1, k2, k3⟩, ⟨c1, c2, c3, c4, c5⟩, cd⟩ := id hR
  rw [ce_X16_emit, f_gi (f := 114) a3 rfl, Option.bind_some, r2, f_gr (f := 113) a3 rfl, Option.bind_some, r1, f_an k3 rfl, Option.bind_some]
  by_cases hf : 2 * (R i).1.length = kf i
  · rw [if_pos (by rw [hf]), Option.bind_some, Option.bind_some, show (2 : Int32) * nI (2 * (R i).1.length) = nI (2 * (2 * (R i).1.length)) from nI_mul 2 _, f_na 200 (by omega), Option.bind_some]
    have hk1 : Kp (fun _ => False) s (awC (anew s (200, 2 * (2 * (R i).1.length))) 1 (2 * (2 * (R i).1.length))) := Kp_new Kp_rf _
    generalize hs1 : awC (anew s (200, 2 * (2 * (R i).1.length))) 1 (2 * (2 * (R i).1.length)) = s1 at hk1
    have hKn : aK_ s1 (aN_ s) = (200, 2 * (2 * (R i).1.length)) := by
      subst hs1
      show aK_ (anew s _) (aN_ s) = _
      rw [aK_anew, if_pos ⟨by omega, rfl⟩]
    have hNn : aN_ s1 = aN_ s + 1 := by subst hs1; rfl
    have hCn : aC_ s1 = aC_ s + 1 := by subst hs1; rfl
    have hZn : aZ_ s1 = aZ_ s + 2 * (2 * (R i).1.length) := by subst hs1; rfl
    have q1 := hk1.2 i a2 (fun z => z)
    have q2 := hk1.2 (cf i) k2 (fun z => z)
    have a3' : (aK_ s1 i).1 = 11 := by rw [q1.2.2.1]; exact a3
    rw [f_pr (f := 113) a3' rfl, Option.bind_some]
    dsimp only
    rw [f_gr (f := 113) (s := awR s1 i 113 (some (aN_ s))) a3' rfl, Option.bind_some, aR_awR, if_pos ⟨rfl, rfl⟩, f_gi (f := 114) (s := awR s1 i 113 (some (aN_ s))) a3' rfl, Option.bind_some, aI_awR, q1.1, r2]
    have k3' : aK_ (awR s1 i 113 (some (aN_ s))) (cf i) = (200, kf i) := q2.2.2.1.trans k3
    have kn' : aK_ (awR s1 i 113 (some (aN_ s))) (aN_ s) = (200, 2 * (2 * (R i).1.length)) := hKn
    -- the old row is copied
    obtain ⟨s2, e2, hk2, hcp, hC2, hZ2, hN2, hK2, hR2⟩ : ∃ s2, aE (d + 1) 416 [vr_ (some (cf i)), vi_ 0, vr_ (some (aN_ s)), vi_ 0, vi_ (nI (2 * (R i).1.length))] (awR s1 i 113 (some (aN_ s))) = some (.inl none, s2) ∧ Kp (fun b => b = aN_ s) (awR s1 i 113 (some (aN_ s))) s2 ∧ (∀ k, k < 2 * (R i).1.length → aI_ s2 (aN_ s) k = aI_ (awR s1 i 113 (some (aN_ s))) (cf i) k) ∧ aC_ s2 = aC_ s1 ∧ aZ_ s2 = aZ_ s1 ∧ aN_ s2 = aN_ s1 ∧ (∀ b, aK_ s2 b = aK_ s1 b) ∧ (∀ b k, aR_ s2 b k = aR_ (awR s1 i 113 (some (aN_ s))) b k) := by
      refine ⟨(fun c k => if c = aN_ s then va_cpy (s1.1 (cf i)) (s1.1 (aN_ s)) 0 0 (2 * (R i).1.length) k else s1.1 c k, (awR s1 i 113 (some (aN_ s))).2), aE_pm d _ _ _ ?_, ?_, fun k hk => ?_, rfl, rfl, rfl, fun _ => rfl, fun _ _ => rfl⟩
      · show (if (aK_ (awR s1 i 113 (some (aN_ s))) (cf i)).1 = (aK_ (awR s1 i 113 (some (aN_ s))) (aN_ s)).1 ∧ 200 ≤ (aK_ (awR s1 i 113 (some (aN_ s))) (cf i)).1 ∧ (aK_ (awR s1 i 113 (some (aN_ s))) (cf i)).1 ≤ 202 ∧ (0 : Int32) ≤ 0 ∧ (0 : Int32) ≤ 0 ∧ 0 ≤ nI (2 * (R i).1.length) ∧ (0 : Int32).toNatClampNeg + (nI (2 * (R i).1.length)).toNatClampNeg ≤ (aK_ (awR s1 i 113 (some (aN_ s))) (cf i)).2 ∧ (0 : Int32).toNatClampNeg + (nI (2 * (R i).1.length)).toNatClampNeg ≤ (aK_ (awR s1 i 113 (some (aN_ s))) (aN_ s)).2 then _ else _) = _
        rw [k3', kn', nI_clamp (by omega), if_pos ⟨rfl, by show (200 : Nat) ≤ 200; decide, by show (200 : Nat) ≤ 202; decide, by decide, by decide, nI_pos' (by omega), by show 0 + _ ≤ kf i; omega, by show 0 + _ ≤ 2 * (2 * (R i).1.length); omega⟩]
        rfl
      · refine ⟨Nat.le_refl _, fun b hb hn => ⟨fun k => ?_, fun _ => rfl, rfl, rfl, rfl, rfl⟩⟩
        show (if b < 4000 then _ else _) = (if b < 4000 then _ else _)
        split
        · rfl
        · show (if b = aN_ s then _ else s1.1 b k) = s1.1 b k
          rw [if_neg hn]
      · show (if aN_ s < 4000 then _ else _) = (if cf i < 4000 then _ else _)
        rw [if_neg (by omega), if_neg (by omega)]
        show (if aN_ s = aN_ s then va_cpy _ _ 0 0 _ k else _) = s1.1 (cf i) k
        rw [if_pos rfl, pk_cpy_in (by omega) (by omega)]
        simp
    rw [e2, cV_k]
    have hks : Kp (fun b => b = i) s s2 := by
      have hA : Kp (fun b => b = i) s (awR s1 i 113 (some (aN_ s))) := Kp_R (Kp_wk hk1 (fun _ _ z => z.elim)) 113 _ (Or.inl rfl)
      exact Kp_in hA hk2 (fun b hb => Or.inr (by omega))
    have hc : ∀ c, c ≠ 11 → ∀ b, b = i → (aK_ s b).1 ≠ c := fun c hc b e => by subst e; rw [a3]; exact fun q => hc q.symm
    have hD := h7
    obtain ⟨⟨d1, d2, d3⟩, ⟨e1, e2, e3⟩, _⟩ := h7
    have hb : aN_ s0 ≤ aN_ s := h8.1
    have hN2 : aN_ s2 = aN_ s + 1 := hN2.trans hNn
    have hKa : aK_ s2 (aN_ s) = (200, 2 * (2 * (R i).1.length)) := (hK2 _).trans hKn
    have hKi : aK_ s2 i = aK_ s i := (hK2 _).trans q1.2.2.1
    have hRi : aR_ s2 i 113 = some (aN_ s) := by rw [hR2, aR_awR, if_pos ⟨rfl, rfl⟩]
    have hIi : ∀ k, aI_ s2 i k = aI_ s i k := fun k => ((hk2.2 i (by show i < aN_ s1; omega) (by omega)).1 k).trans (q1.1 k)
    refine ⟨s2, rfl, ⟨HX_Kp h1 hks (hc _ (by decide)), HL_Kp h2 hks (hc _ (by decide)), HJ_Kp h3 hks (hc _ (by decide)) (fun a e hj => hc 36 (by decide) a e (h3 _ hj).1.2.2), HM_Kp h4 hks (hc _ (by decide)), HN_Kp h5 hks (hc _ (by decide)), ⟨nd, au_ cf i (aN_ s), au_ kf i (2 * (2 * (R i).1.length)), fun j hj => ?_, fun j hj k hk => ?_, ?_⟩, HD_Kp hD hks hb (fun a e => ⟨fun q => hc 200 (by decide) a e (by rw [q, d3]), fun q => hc 200 (by decide) a e (by rw [q, e3])⟩), Kp_in h8 hks (fun a e => Or.inr (by subst e; exact a1)), by omega, h10⟩, aN_ s, _, ?_, hKa, by omega⟩
    · by_cases q : j = i
      · subst q
        refine ⟨⟨a1, by omega, by rw [hKi]; exact a3⟩, by unfold au_; rw [if_pos rfl]; exact hb, ?_⟩
        show RN_ s2 j (au_ cf j (aN_ s) j) (au_ kf j (2 * (2 * (R j).1.length)) j) (R j)
        unfold au_
        rw [if_pos rfl, if_pos rfl]
        refine ⟨⟨hRi, (hIi _).trans r2, (hIi _).trans r3, (hIi _).trans r4, (hIi _).trans r5, (hIi _).trans r6, (hIi _).trans r7⟩, ⟨by omega, by omega, hKa⟩, ⟨by omega, by omega, by omega, by omega, c5⟩, fun k o a e => ?_⟩
        have hkl := (List.getElem?_eq_some_iff.mp e).1
        have hcd := cd k o a e
        exact ⟨(hcp _ (by omega)).trans ((q2.1 _).trans hcd.1), (hcp _ (by omega)).trans ((q2.1 _).trans hcd.2)⟩
      · obtain ⟨⟨b1, b2, b3⟩, b4, b5⟩ := g1 j hj
        have z := hks.2 j b2 q
        refine ⟨⟨b1, by omega, by rw [z.2.2.1]; exact b3⟩, by unfold au_; rw [if_neg q]; exact b4, ?_⟩
        show RN_ s2 j (au_ cf i (aN_ s) j) (au_ kf i (2 * (2 * (R i).1.length)) j) (R j)
        unfold au_
        rw [if_neg q, if_neg q]
        exact RN_Kp b5 hks b2 q (fun z => kxf a3 (z ▸ b5.2.1.2.2) (by decide))
    · have l1 := (g1 j hj).2.2.2.1.2.1
      have l2 := (g1 k hk).2.2.2.1.2.1
      unfold au_
      by_cases q : j = i
      · by_cases q' : k = i
        · intro _; rw [q, q']
        · rw [if_pos q, if_neg q']; intro z; omega
      · by_cases q' : k = i
        · rw [if_neg q, if_pos q']; intro z; omega
        · rw [if_neg q, if_neg q']; exact g2 j hj k hk
    · refine Nat.le_trans ?_ g3
      have := sum_dn (i := i) (f := ph_ R (au_ kf i (2 * (2 * (R i).1.length)))) (g := ph_ R kf) (c := 2 * (2 * (R i).1.length)) nd hi (fun j _ hj => by
        unfold ph_ au_
        rw [if_neg hj]
        exact Nat.le_refl _) (by
        unfold ph_ au_
        rw [if_pos rfl]
        omega)
      have e1 : aZ_ s2 = aZ_ s + 2 * (2 * (R i).1.length) := hZ2.trans hZn
      show aZ_ s2 + (L.2.1.map (ph_ R (au_ kf i (2 * (2 * (R i).1.length))))).sum ≤ aZ_ s + (L.2.1.map (ph_ R kf)).sum
      rw [e1]
      omega
    · exact hRi
  · rw [if_neg (by rw [neq_ (by omega) (by omega)]; exact hf)]
    exact ⟨s, rfl, HS_up h (Nat.le_succ _) (Nat.le_refl _), cf i, kf i, r1, k3, by omega⟩
/-- an instruction is written -/
theorem h_emit (d : Nat) {o a : Int32} (h : HS_ x SCL RTL AR DA EA s0 s (X, L, J, M, N, R, D, E) Cb Zb) (hi : i ∈ L.2.1) (hl : (R i).1.length + 1 < 2 ^ 24) : ∃ s', aE (d + 2) 312 [vr_ (some i), vi_ o, vi_ a] s = some (.inl (some (vi_ (nI (2 * (R i).1.length)))), s') ∧ HS_ x SCL RTL AR DA EA s0 s' (X, L, J, M, N, au_ R i ((R i).1 ++ [(o, a)], (R i).2), D, E) (Cb + 1) (Zb + 8) := by
  obtain ⟨s1, e1, h', cid, cap, f1, f2, f3⟩ := h_room d (o := o) (a := a) h hi hl
  obtain ⟨h1, h2, h3, h4, h5, ⟨nd, cf, kf, g1, g2, g3⟩, h7, h8, h9, h10⟩ := HS_d h'
  obtain ⟨⟨a1, a2, a3⟩, a4, hR⟩ := g1 i hi
  obtain ⟨⟨r1, r2, r3, r4, r5, r6, r7⟩, ⟨k1, k2, k3⟩, ⟨c1, c2, c3, c4, c5⟩, cd⟩ := id hR
  have hb : aN_ s0 ≤ aN_ s1 := h8.1
  obtain rfl : cid = cf i := Option.some.inj (f1.symm.trans r1)
  obtain rfl : cap = kf i := congrArg Prod.snd (f2.symm.trans k3)
  have hne : ¬ cf i = i := fun q => kxf a3 (q ▸ k3) (by decide)
  have i4 : 4000 ≤ i := by omega
  -- three writings
  have w1 : a_wi 0 (some (cf i)) (nI (2 * (R i).1.length)) o s1 = some (awI s1 (cf i) (2 * (R i).1.length) o) := f_wi k3 rfl (by omega) (by omega)
  have w2 : a_wi 0 (some (cf i)) (nI (2 * (R i).1.length) + 1) a (awI s1 (cf i) (2 * (R i).1.length) o) = some (awI (awI s1 (cf i) (2 * (R i).1.length) o) (cf i) (2 * (R i).1.length + 1) a) := by
    rw [nI_1]
    exact f_wi (show aK_ (awI s1 (cf i) (2 * (R i).1.length) o) (cf i) = (200, kf i) from k3) rfl (by omega) (by omega)
  refine ⟨awI (awI (awI s1 (cf i) (2 * (R i).1.length) o) (cf i) (2 * (R i).1.length + 1) a) i 114 (nI (2 * (R i).1.length) + 2), ?_, ?_⟩
  · have v1 : aI_ (awI s1 (cf i) (2 * (R i).1.length) o) i 114 = nI (2 * (R i).1.length) := by rw [aI_awI, if_neg (fun z => hne z.2.1.symm)]; exact r2
    have v2 : aI_ (awI (awI s1 (cf i) (2 * (R i).1.length) o) (cf i) (2 * (R i).1.length + 1) a) i 114 = nI (2 * (R i).1.length) := by rw [aI_awI, if_neg (fun z => hne z.2.1.symm)]; exact v1
    rw [e1, cj_X16_emit_43, f_gr (f := 113) a3 rfl, Option.bind_some, r1, f_gi (f := 114) a3 rfl, Option.bind_some, r2, w1, Option.bind_some, f_gr (f := 113) (s := awI s1 (cf i) (2 * (R i).1.length) o) a3 rfl, Option.bind_some, aR_awI, r1, f_gi (f := 114) (s := awI s1 (cf i) (2 * (R i).1.length) o) a3 rfl, Option.bind_some, v1, w2, Option.bind_some, f_gi (f := 114) (s := awI (awI s1 (cf i) (2 * (R i).1.length) o) (cf i) (2 * (R i).1.length + 1) a) a3 rfl, Option.bind_some, v2, f_pi (f := 114) (s := awI (awI s1 (cf i) (2 * (R i).1.length) o) (cf i) (2 * (R i).1.length + 1) a) a3 rfl rfl, Option.bind_some, f_gi (f := 114) (s := awI (awI (awI s1 (cf i) (2 * (R i).1.length) o) (cf i) (2 * (R i).1.length + 1) a) i 114 (nI (2 * (R i).1.length) + 2)) a3 rfl, Option.bind_some, aI_awI, if_pos ⟨i4, rfl, rfl⟩, show nI (2 * (R i).1.length) + 2 - 2 = nI (2 * (R i).1.length) by
      rw [Int32.add_sub_cancel]]
  · have hks : Kp (fun b => b = cf i ∨ b = i) s1 (awI (awI (awI s1 (cf i) (2 * (R i).1.length) o) (cf i) (2 * (R i).1.length + 1) a) i 114 (nI (2 * (R i).1.length) + 2)) := Kp_I (Kp_I (Kp_I Kp_rf _ _ (Or.inl (Or.inl rfl))) _ _ (Or.inl (Or.inl rfl))) _ _ (Or.inl (Or.inr rfl))
    have hc : ∀ c, c ≠ 11 → c ≠ 200 → ∀ b, (b = cf i ∨ b = i) → (aK_ s1 b).1 ≠ c := fun c hc hc2 b e => by
      rcases e with rfl | rfl
      · rw [k3]; exact fun q => hc2 q.symm
      · rw [a3]; exact fun q => hc q.symm
    have hD := h7
    obtain ⟨⟨d1, d2, d3⟩, ⟨e1, e2, e3⟩, _⟩ := h7
    refine ⟨HX_Kp h1 hks (hc _ (by decide) (by decide)), HL_Kp h2 hks (hc _ (by decide) (by decide)), HJ_Kp h3 hks (hc _ (by decide) (by decide)) (fun b e hi => hc 36 (by decide) (by decide) b e (h3 _ hi).1.2.2), HM_Kp h4 hks (hc _ (by decide) (by decide)), HN_Kp h5 hks (hc _ (by decide) (by decide)), ⟨nd, cf, kf, fun j hj => ?_, g2, ?_⟩, HD_Kp hD hks hb (fun b e => by rcases e with rfl | rfl <;> exact ⟨by omega, by omega⟩), Kp_I (Kp_I (Kp_I h8 _ _ (Or.inr a4)) _ _ (Or.inr a4)) _ _ (Or.inr a1), h9, h10⟩
    · by_cases q : j = i
      · subst q
        refine ⟨⟨a1, a2, a3⟩, a4, ?_⟩
        show RN_ _ j (cf j) (kf j) (au_ R j ((R j).1 ++ [(o, a)], (R j).2) j)
        unfold au_
        rw [if_pos rfl]
        have z : ∀ k w, k ≠ 114 → aI_ s1 j k = w → aI_ (awI (awI (awI s1 (cf j) (2 * (R j).1.length) o) (cf j) (2 * (R j).1.length + 1) a) j 114 (nI (2 * (R j).1.length) + 2)) j k = w := fun k w hk hw => by
          rw [aI_awI, if_neg (fun z => hk z.2.2), aI_awI, if_neg (fun z => hne z.2.1.symm), aI_awI, if_neg (fun z => hne z.2.1.symm)]
          exact hw
        refine ⟨⟨r1, ?_, z _ _ (by decide) r3, z _ _ (by decide) r4, z _ _ (by decide) r5, z _ _ (by decide) r6, z _ _ (by decide) r7⟩, ⟨k1, k2, k3⟩, ⟨c1, c2, by simp; omega, by simp; omega, by simp; omega⟩, fun k o' a' e => ?_⟩
        · rw [aI_awI, if_pos ⟨i4, rfl, rfl⟩, List.length_append]
          show nI _ + nI 2 = _
          rw [nI_add]
          rfl
        · have z2 : ∀ q, aI_ (awI (awI (awI s1 (cf j) (2 * (R j).1.length) o) (cf j) (2 * (R j).1.length + 1) a) j 114 (nI (2 * (R j).1.length) + 2)) (cf j) q = if q = 2 * (R j).1.length + 1 then a else if q = 2 * (R j).1.length then o else aI_ s1 (cf j) q := fun q => by
            rw [aI_awI, if_neg (fun z => hne z.2.1), aI_awI]
            by_cases h1 : q = 2 * (R j).1.length + 1
            · rw [if_pos ⟨k1, rfl, h1⟩, if_pos h1]
            · rw [if_neg (fun z => h1 z.2.2), if_neg h1, aI_awI]
              by_cases h2 : q = 2 * (R j).1.length
              · rw [if_pos ⟨k1, rfl, h2⟩, if_pos h2]
              · rw [if_neg (fun z => h2 z.2.2), if_neg h2]
          rw [z2, z2]
          rw [List.getElem?_append] at e
          by_cases hk : k < (R j).1.length
          · rw [if_pos hk] at e
            have := cd k o' a' e
            rw [if_neg (by omega), if_neg (by omega), if_neg (by omega), if_neg (by omega)]
            exact this
          · rw [if_neg hk] at e
            have hk2 : k = (R j).1.length := by
              by_cases z : k - (R j).1.length = 0
              · omega
              · rw [List.getElem?_eq_none (by simp; omega)] at e; cases e
            subst hk2
            simp at e
            obtain ⟨rfl, rfl⟩ := e
            exact ⟨by rw [if_neg (by omega), if_pos rfl], by rw [if_pos rfl]⟩
      · obtain ⟨⟨b1, b2, b3⟩, b4, b5⟩ := g1 j hj
        have q1 : ¬ cf j = cf i := fun z => q (g2 j hj i hi z)
        have q2 : ¬ j = cf i := fun z => kxf b3 (z.symm ▸ k3) (by decide)
        have q3 : ¬ cf j = i := fun z => kxf a3 (z ▸ b5.2.1.2.2) (by decide)
        refine ⟨⟨b1, b2, b3⟩, b4, ?_⟩
        show RN_ _ j (cf j) (kf j) (au_ R i ((R i).1 ++ [(o, a)], (R i).2) j)
        unfold au_
        rw [if_neg q]
        exact RN_Kp b5 hks b2 (fun z => z.elim q2 q) (fun z => z.elim q1 q3)
    · refine Nat.le_trans (Nat.add_le_add_left (sum_au (i := i) (c := 8) nd (fun j _ hj => ?_) ?_) _) (by show aZ_ s1 + ((L.2.1.map (ph_ R kf)).sum + 8) ≤ _; omega)
      · show 8 * (au_ R i ((R i).1 ++ [(o, a)], (R i).2) j).1.length + 128 - 2 * kf j ≤ 8 * (R j).1.length + 128 - 2 * kf j
        unfold au_
        rw [if_neg hj]
        exact Nat.le_refl _
      · show 8 * (au_ R i ((R i).1 ++ [(o, a)], (R i).2) i).1.length + 128 - 2 * kf i ≤ 8 * (R i).1.length + 128 - 2 * kf i + 8
        unfold au_
        rw [if_pos rfl]
        simp only [List.length_append, List.length_singleton]
        omega
end hop
