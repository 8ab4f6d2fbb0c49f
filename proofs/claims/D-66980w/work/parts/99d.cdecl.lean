/-! ===== declare, init, uses, entries ===== -/
section CRdecl
variable {z s q : mm_S} {ts : List ctk} {es : List enT} {sv : List Int32} {r : Option ct_t}
theorem fa_55 (k p : Int32) (q : mm_S) {f i : Nat} (h : ¬ (f = 0 ∧ (i = 12 ∨ i = 13))) : fa_ k p q f i = q f i := by
  have e : mm_u (mm_u q 0 12 k) 0 13 p f i = q f i := by rw [mu_n (by omega), mu_n (by omega)]
  unfold fa_
  split
  · exact e
  · split
    · rfl
    · split
      · split
        · exact e
        · rfl
      · exact e
theorem ft_55 {k t : Int32} {q q' : mm_S} (hf : ft_ z k t q = some q') {f i : Nat} (h : ¬ (f = 0 ∧ (i = 12 ∨ i = 13))) : q' f i = q f i := by
  unfold ft_ at hf
  cases hp : pl_k z t with
  | none => rw [hp] at hf; exact nomatch hf
  | some p =>
    rw [hp] at hf
    cases hf
    exact fa_55 k p q h
theorem KE_ap {s : mm_S} : ∀ {pre r : List enT}, KE s (pre ++ r) → KE s r
  | [], _, h => h
  | _ :: pre, _, h => KE_ap (pre := pre) h.2
theorem m_dcl (d : Nat) {nm tok a3 a4 a5 a6 b : Int32} (hb : ¬ b < 0) : ∀ (r : List enT) (s q q' : mm_S), CR z s (ts, es, sv, q) → (∃ pre, es = pre ++ r) → q 0 55 = b → dcl z nm tok b r q = some q' → ∃ s', mJ (d + 3) 49 8 [vr_ (some 0), vi_ nm, vi_ tok, vi_ a3, vi_ a4, vi_ a5, vi_ a6, vi_ (nI r.length - 1)] [] s = (mm_bI (mE (d + 2) 48 [vr_ (some 0), vi_ nm, vi_ a3, vi_ a4, vi_ a5, vi_ a6] s') fun v2 s1 => (mm_w 9000 57 v2 tok s1).bind fun s3 => some (some (vi_ v2), s3)) ∧ CR z s' (ts, es, sv, q') ∧ (∀ f j, f ≠ 0 → s' f j = s f j) ∧ ∀ f i, ¬ (f = 0 ∧ (i = 12 ∨ i = 13)) → q' f i = q f i
  | [], s, q, q', h, _, h55, hd => by
    cases hd
    refine ⟨s, ?_, h, fun _ _ _ => rfl, fun _ _ _ => rfl⟩
    have e55 : s 0 55 = b := (h.2.1 0 55 (by unfold kD; omega)).trans h55
    rw [mj_declare_8, if_pos (by
      rw [e55]
      have : (nI ([] : List enT).length - 1 : Int32) = -1 := rfl
      rw [this]
      simp only [Int32.lt_iff_toInt_lt] at hb ⊢
      have : (-1 : Int32).toInt = -1 := rfl
      have : (0 : Int32).toInt = 0 := rfl
      omega)]
  | e :: r, s, q, q', h, ⟨pre, hpre⟩, h55, hd => by
    have e55 : s 0 55 = b := (h.2.1 0 55 (by unfold kD; omega)).trans h55
    have hK : KE s (e :: r) := KE_ap (pre := pre) (by rw [← hpre]; exact h.2.2.2.2.1)
    have hl : r.length < 9000 := by
      have := h.2.2.2.2.2.2.2.1
      rw [hpre] at this
      simp at this
      omega
    rw [mj_declare_8, show (nI (e :: r).length - 1 : Int32) = nI r.length from nI_pred _, e55]
    unfold dcl at hd
    by_cases cb : nI r.length < b
    · rw [if_pos cb] at hd ⊢
      cases hd
      exact ⟨s, rfl, h, fun _ _ _ => rfl, fun _ _ _ => rfl⟩
    rw [if_neg cb] at hd ⊢
    rw [mm_a_n hl (by decide), Option.bind_some, hK.1.1]
    have en : (nI r.length + -1 : Int32) = nI r.length - 1 := (Int32.sub_eq_add_neg _ _).symm
    by_cases c : e.1 = nm
    · rw [if_pos c] at hd ⊢
      by_cases c6 : e.2.1 = 6
      · rw [if_pos c6] at hd; exact nomatch hd
      rw [if_neg c6] at hd
      cases hf : ft_ z 4 (if tok < e.2.2.2.2.2 then e.2.2.2.2.2 else tok) q with
      | none => rw [hf] at hd; exact nomatch hd
      | some q1 =>
        rw [hf, Option.bind_some] at hd
        have h57 : s 57 r.length = e.2.2.2.2.2 := hK.1.2.2.2.2.2 c6
        have tw : ∀ K : Int32 → mm_S → mm_O, mm_bI (mE (d + 2) 50 [vr_ (some 0), vi_ (nI r.length), vi_ tok] s) K = mm_bI (mE (d + 2) 46 [vr_ (some 0), vi_ (if tok < e.2.2.2.2.2 then e.2.2.2.2.2 else tok)] s) K := by
          intro K
          rw [me_tokenOfTwice, mm_a_n hl (by decide), Option.bind_some, h57, m_place h (d + 1)]
          by_cases c2 : tok < e.2.2.2.2.2
          · rw [if_pos c2, if_pos c2, Option.bind_some, m_place h d]
            cases pl_k z e.2.2.2.2.2 <;> rfl
          · rw [if_neg c2, if_neg c2, m_place h d]
            cases pl_k z tok <;> rfl
        rw [tw]
        obtain ⟨s1, a1, b1, c1⟩ := m_ft h (d + 1) 4 _ (fun s7 => mJ (d + 3) 49 8 [vr_ (some 0), vi_ nm, vi_ tok, vi_ a3, vi_ a4, vi_ a5, vi_ a6, vi_ (nI r.length + -1)] [] s7) hf
        obtain ⟨s2, a2, b2, c2, d2⟩ := m_dcl d hb r s1 q1 q' b1 ⟨pre ++ [e], by rw [hpre]; simp⟩ ((ft_55 hf (by omega)).trans h55) hd
        refine ⟨s2, ?_, b2, fun f j hf => (c2 f j hf).trans (c1 f j hf), fun f i hi => (d2 f i hi).trans (ft_55 hf hi)⟩
        rw [← a2, ← en]
        exact a1
    · rw [if_neg c] at hd ⊢
      rw [Option.bind_some] at hd
      rw [en]
      exact m_dcl d hb r s q q' h ⟨pre ++ [e], by rw [hpre]; simp⟩ h55 hd
/-- one entry more -/
theorem m_entry (h : CR z s (ts, es, sv, q)) (d : Nat) {nm a3 a4 a5 a6 tok : Int32} (hl : es.length < 9000) : ∃ s', (mm_bI (mE (d + 1) 48 [vr_ (some 0), vi_ nm, vi_ a3, vi_ a4, vi_ a5, vi_ a6] s) fun v2 s1 => (mm_w 9000 57 v2 tok s1).bind fun s3 => some (some (vi_ v2), s3)) = some (some (vi_ (nI es.length)), s') ∧ CR z s' (ts, (nm, a3, a4, a5, a6, tok) :: es, sv, q) := by
  obtain ⟨a, b, ⟨c1, c2, c3⟩, e, g', k', l1, l2, l3⟩ := h
  rw [me_entry, c2, mm_w_n hl (by decide), Option.bind_some]
  have f1 : mm_u s 50 es.length nm 0 49 = nI es.length := (mu_n (by omega)).trans c2
  rw [f1, mm_w_n hl (by decide), Option.bind_some]
  have f2 : mm_u (mm_u s 50 es.length nm) 51 es.length a3 0 49 = nI es.length := (mu_n (by omega)).trans f1
  rw [f2, mm_w_n hl (by decide), Option.bind_some]
  have f3 : mm_u (mm_u (mm_u s 50 es.length nm) 51 es.length a3) 52 es.length a4 0 49 = nI es.length := (mu_n (by omega)).trans f2
  rw [f3, mm_w_n hl (by decide), Option.bind_some]
  have f4 : mm_u (mm_u (mm_u (mm_u s 50 es.length nm) 51 es.length a3) 52 es.length a4) 53 es.length a5 0 49 = nI es.length := (mu_n (by omega)).trans f3
  rw [f4, mm_w_n hl (by decide), Option.bind_some]
  have f5 : mm_u (mm_u (mm_u (mm_u (mm_u s 50 es.length nm) 51 es.length a3) 52 es.length a4) 53 es.length a5) 54 es.length a6 0 49 = nI es.length := (mu_n (by omega)).trans f4
  rw [f5, nI_1, show (nI (es.length + 1) - 1 : Int32) = nI es.length from nI_pred _, bI_k, mm_w_n hl (by decide), Option.bind_some]
  refine ⟨_, rfl, ?_⟩
  have go : ∀ f j, ¬ (50 ≤ f ∧ f ≤ 57 ∧ j = es.length) → ¬ (f = 0 ∧ j = 49) → mm_u (mm_u (mm_u (mm_u (mm_u (mm_u (mm_u s 50 es.length nm) 51 es.length a3) 52 es.length a4) 53 es.length a5) 54 es.length a6) 0 49 (nI (es.length + 1))) 57 es.length tok f j = s f j := fun f j h1 h2 => by
    rw [mu_n (by omega), mu_n h2, mu_n (by omega), mu_n (by omega), mu_n (by omega), mu_n (by omega), mu_n (by omega)]
  refine ⟨fun f i hz hd => ?_, fun f i hq => ?_, ⟨?_, ?_, ?_⟩, KT_fr (fun f j _ _ _ => go _ _ (by omega) (by omega)) e, ⟨⟨?_, ?_, ?_, ?_, ?_, fun _ => mu_s⟩, KE_fr (fun f j _ _ _ => go _ _ (by omega) (by omega)) g'⟩, KV_fr (fun j _ => go _ _ (by omega) (by omega)) k', l1, by simp; omega, l3⟩
  · by_cases hc : 50 ≤ f ∧ f ≤ 57 ∧ i = es.length
    · have : f = 55 ∨ f = 56 := by unfold kS at hz; omega
      rcases this with rfl | rfl <;> (rw [mu_n (by omega), mu_n (by omega), mu_n (by omega), mu_n (by omega), mu_n (by omega), mu_n (by omega), mu_n (by omega)]; exact a _ i hz hd)
    · rw [go _ _ hc (by unfold kS at hz; omega)]; exact a f i hz hd
  · rw [go _ _ (by unfold kD at hq; omega) (by unfold kD at hq; omega)]; exact b f i hq
  · exact (go _ _ (by omega) (by omega)).trans c1
  · rw [mu_n (by omega), mu_s]; rfl
  · exact (go _ _ (by omega) (by omega)).trans c3
  · rw [mu_n (by omega), mu_n (by omega), mu_n (by omega), mu_n (by omega), mu_n (by omega), mu_n (by omega), mu_s]
  · rw [mu_n (by omega), mu_n (by omega), mu_n (by omega), mu_n (by omega), mu_n (by omega), mu_s]
  · rw [mu_n (by omega), mu_n (by omega), mu_n (by omega), mu_n (by omega), mu_s]
  · rw [mu_n (by omega), mu_n (by omega), mu_n (by omega), mu_s]
  · rw [mu_n (by omega), mu_n (by omega), mu_s]
theorem k_declare {d : Nat} {K : Int32 → mm_S → mm_O} {nm tok a3 a4 a5 a6 : Int32} {F : List enT × mm_S → Option ct_t} (h : CR z s (ts, es, sv, q)) (hk : ∀ s1 y, CR z s1 (ts, y.1, sv, y.2) → kq_ z (F y) (K (nI es.length) s1)) : kq_ z ((dc_k z nm tok a3 a4 a5 a6 es q).bind F) (mm_bI (mE (d + 3) 49 [vr_ (some 0), vi_ nm, vi_ tok, vi_ a3, vi_ a4, vi_ a5, vi_ a6] s) K) := by
  unfold dc_k
  by_cases h0 : q 0 55 < 0
  · rw [if_pos h0]; exact k_none
  rw [if_neg h0]
  cases hd : dcl z nm tok (q 0 55) es q with
  | none => exact k_none
  | some q' =>
    rw [Option.bind_some]
    by_cases hl : es.length < 9000
    · rw [if_pos hl, Option.bind_some]
      obtain ⟨s1, a1, b1, c1, _⟩ := m_dcl d (a3 := a3) (a4 := a4) (a5 := a5) (a6 := a6) h0 es s q q' h ⟨[], rfl⟩ rfl hd
      obtain ⟨s2, a2, b2⟩ := m_entry b1 (d + 1) (nm := nm) (a3 := a3) (a4 := a4) (a5 := a5) (a6 := a6) (tok := tok) hl
      rw [me_declare, h.2.2.1.2.1]
      have a1 : mJ (d + 2 + 1) 49 8 [vr_ (some 0), vi_ nm, vi_ tok, vi_ a3, vi_ a4, vi_ a5, vi_ a6, vi_ (nI es.length - 1)] [] s = _ := a1
      rw [a1, a2, bI_k]
      exact hk s2 _ b2
    · rw [if_neg hl]; exact k_none
theorem k_w {n f : Nat} {x y : Int32} {F : mm_S → Option ct_t} {K : mm_S → mm_O} (h : CR z s (ts, es, sv, q)) (hf : ∀ i, kD f i) (hk : ∀ s1 q1, CR z s1 (ts, es, sv, q1) → kq_ z (F q1) (K s1)) : kq_ z ((mm_w n f x y q).bind F) ((mm_w n f x y s).bind K) := by
  unfold mm_w
  split
  · exact hk _ _ (CR_q h _ (hf _))
  · exact k_none
theorem k_init {d : Nat} {K : mm_S → mm_O} {a v : Int32} {F : mm_S → Option ct_t} (h : CR z s (ts, es, sv, q)) (hk : ∀ s1 q1, CR z s1 (ts, es, sv, q1) → kq_ z (F q1) (K s1)) : kq_ z ((ini a v q).bind F) (mm_bV (mE (d + 1) 64 [vr_ (some 0), vi_ a, vi_ v] s) K) := by
  have e84 : ∀ {s q}, CR z s (ts, es, sv, q) → s 0 84 = q 0 84 := fun h => h.2.1 0 84 (by unfold kD; omega)
  rw [me_init_2, e84 h]
  unfold ini
  by_cases c : q 0 84 = 9000
  · rw [if_pos c, if_pos c]
    exact hk s q h
  rw [if_neg c, if_neg c]
  have bv : ∀ (o : Option mm_S) (g : mm_S → mm_O) , mm_bV (o.bind g) K = o.bind fun s => mm_bV (g s) K := fun o g => by cases o <;> rfl
  simp only [bv, Option.bind_assoc]
  refine k_w h (by intro i; unfold kD; omega) fun s1 q1 h1 => ?_
  rw [e84 h1]
  refine k_w h1 (by intro i; unfold kD; omega) fun s2 q2 h2 => ?_
  rw [e84 h2]
  exact hk _ _ (CR_q h2 _ (by unfold kD; omega))
theorem k_uses {d : Nat} {K : mm_S → mm_O} {n : Int32} (h : CR z s (ts, es, sv, q)) (hk : ∀ s1, CR z s1 (ts, es, sv, us_ n q) → kq_ z r (K s1)) : kq_ z r (mm_bV (mE (d + 1) 76 [vr_ (some 0), vi_ n] s) K) := by
  have e74 : s 0 74 = q 0 74 := h.2.1 0 74 (by unfold kD; omega)
  have e75 : s 0 75 = q 0 75 := h.2.1 0 75 (by unfold kD; omega)
  rw [me_uses, e74, e75]
  unfold us_ at hk
  by_cases c : 40000 < q 0 74
  · rw [if_pos c]
    rw [if_pos c] at hk
    dsimp only at hk
    rw [mu_s] at hk
    by_cases c2 : q 0 75 < q 0 74
    · rw [if_pos c2]
      rw [if_pos c2] at hk
      exact hk _ (CR_q (CR_q h _ (by unfold kD; omega)) _ (by unfold kD; omega))
    · rw [if_neg c2]
      rw [if_neg c2] at hk
      exact hk _ (CR_q h _ (by unfold kD; omega))
  · rw [if_neg c]
    rw [if_neg c] at hk
    dsimp only at hk
    rw [mu_s] at hk
    by_cases c2 : q 0 75 < q 0 74 + n
    · rw [if_pos c2]
      rw [if_pos c2] at hk
      exact hk _ (CR_q (CR_q h _ (by unfold kD; omega)) _ (by unfold kD; omega))
    · rw [if_neg c2]
      rw [if_neg c2] at hk
      exact hk _ (CR_q h _ (by unfold kD; omega))
end CRdecl
