/-! ===== plain instructions of the pure machine are the machine's own ===== -/
def pj_v (ad : Nat → Nat) : pj_V → Value
  | .inl x => .int x
  | .inr (.inl x) => .long x
  | .inr (.inr (.inl r)) => va_rf (r.map ad)
  | .inr (.inr (.inr b)) => .float b
def pj_L (ad : Nat → Nat) (nL : Nat) (ls : pj_Ls) (la : Array Slot) : Prop := la.size = nL ∧ lv_wf la ∧ ∀ i v, pj_g ls i = some v → la[i]? = some (.val (pj_v ad v))
def pj_prs (ad : Nat → Nat) : Nat → pj_Ls → List (Nat × Value)
  | _, [] => []
  | k, none :: r => pj_prs ad (k + 1) r
  | k, some v :: r => (k, pj_v ad v) :: pj_prs ad (k + 1) r
theorem pj_prs_of {ad : Nat → Nat} : ∀ (ls : pj_Ls) (k : Nat) (q : Nat × Value), q ∈ pj_prs ad k ls → ∃ i v, q.1 = k + i ∧ pj_g ls i = some v ∧ q.2 = pj_v ad v
  | [], k, q, h => by cases h
  | none :: r, k, q, h => by
    obtain ⟨i, v, a, b, c⟩ := pj_prs_of r (k + 1) q h
    exact ⟨i + 1, v, by omega, b, c⟩
  | some w :: r, k, q, h => by
    rcases List.mem_cons.mp h with rfl | h
    · exact ⟨0, w, rfl, rfl, rfl⟩
    · obtain ⟨i, v, a, b, c⟩ := pj_prs_of r (k + 1) q h
      exact ⟨i + 1, v, by omega, b, c⟩
theorem pj_prs_to {ad : Nat → Nat} : ∀ (ls : pj_Ls) (k i : Nat) (v : pj_V), pj_g ls i = some v → (k + i, pj_v ad v) ∈ pj_prs ad k ls
  | [], k, i, v, h => by cases h
  | none :: r, k, 0, v, h => by cases h
  | none :: r, k, i + 1, v, h => by
    have := pj_prs_to (ad := ad) r (k + 1) i v h
    rw [show k + (i + 1) = k + 1 + i by omega]
    exact this
  | some w :: r, k, 0, v, h => by
    cases h
    exact List.mem_cons_self
  | some w :: r, k, i + 1, v, h => by
    have := pj_prs_to (ad := ad) r (k + 1) i v h
    rw [show k + (i + 1) = k + 1 + i by omega]
    exact List.mem_cons_of_mem _ this
theorem pj_L.has {ad : Nat → Nat} {nL : Nat} {ls : pj_Ls} {la : Array Slot} (h : pj_L ad nL ls la) : lv_has la nL (pj_prs ad 0 ls) := by
  refine ⟨h.1, h.2.1, fun q hq => ?_⟩
  obtain ⟨i, v, a, b, c⟩ := pj_prs_of ls 0 q hq
  rw [a, c, Nat.zero_add]
  exact h.2.2 i v b
theorem pj_g_s1 : ∀ (ls : pj_Ls) (i : Nat) (v : pj_V) (j : Nat) (w : pj_V), pj_g (pj_s1 ls i v) j = some w → (j = i ∧ w = v) ∨ (j ≠ i ∧ pj_g ls j = some w ∧ (j + 1 = i → pj_kill (some w) = some w))
  | [], i, v, j, w, h => by cases h
  | x :: r, 0, v, 0, w, h => by
    cases h
    exact Or.inl ⟨rfl, rfl⟩
  | x :: r, 0, v, j + 1, w, h => Or.inr ⟨by omega, h, fun q => by omega⟩
  | x :: r, 1, v, 0, w, h => by
    have h : pj_kill x = some w := h
    refine Or.inr ⟨by omega, ?_, fun _ => ?_⟩
    · show x = some w
      unfold pj_kill at h
      split at h
      · cases h
      · exact h
    · unfold pj_kill at h ⊢
      split at h
      · cases h
      · subst h
        rename_i hne
        split
        · rename_i a b
          exact absurd b (hne _)
        · rfl
  | x :: r, i + 2, v, 0, w, h => Or.inr ⟨by omega, h, fun q => by omega⟩
  | x :: r, i + 1, v, j + 1, w, h => by
    have h : pj_g (pj_s1 r i v) j = some w := by
      cases i <;> exact h
    rcases pj_g_s1 r i v j w h with ⟨a, b⟩ | ⟨a, b, c⟩
    · exact Or.inl ⟨by omega, b⟩
    · exact Or.inr ⟨by omega, b, fun q => c (by omega)⟩
theorem pj_g_cl : ∀ (ls : pj_Ls) (i j : Nat) (w : pj_V), pj_g (pj_cl ls i) j = some w → j ≠ i ∧ pj_g ls j = some w
  | [], i, j, w, h => by cases h
  | x :: r, 0, 0, w, h => by cases h
  | x :: r, 0, j + 1, w, h => ⟨by omega, h⟩
  | x :: r, i + 1, 0, w, h => ⟨by omega, h⟩
  | x :: r, i + 1, j + 1, w, h => by
    obtain ⟨a, b⟩ := pj_g_cl r i j w h
    exact ⟨by omega, b⟩
theorem pj_rf_cat (r : Option Nat) : (va_rf r).category = 1 := by cases r <;> rfl
theorem pj_v_cat {ad : Nat → Nat} {w : pj_V} (h : pj_kill (some w) = some w) : (pj_v ad w).category = 1 := by
  rcases w with x | x | x | x
  · rfl
  · cases h
  · exact pj_rf_cat _
  · rfl
theorem pj_L.s1 {ad : Nat → Nat} {nL : Nat} {ls : pj_Ls} {i : Nat} {v : pj_V} {la : Array Slot} (h : lv_has la nL ((i, pj_v ad v) :: (pj_prs ad 0 ls).filter (fun q => !(q.1 == i) && !(q.1 + 1 == i && q.2.category == 2)))) : pj_L ad nL (pj_s1 ls i v) la := by
  refine ⟨h.1, h.2.1, fun j w hw => ?_⟩
  rcases pj_g_s1 ls i v j w hw with ⟨rfl, rfl⟩ | ⟨a, b, c⟩
  · exact h.2.2 _ List.mem_cons_self
  · refine h.2.2 (j, pj_v ad w) (List.mem_cons_of_mem _ (List.mem_filter.mpr ⟨?_, ?_⟩))
    · have := pj_prs_to (ad := ad) ls 0 j w b
      rwa [Nat.zero_add] at this
    · by_cases hj : j + 1 = i
      · simp [a, pj_v_cat (c hj)]
      · simp [a, hj]
theorem pj_L.s2 {ad : Nat → Nat} {nL : Nat} {ls : pj_Ls} {i : Nat} {v : pj_V} {la : Array Slot} (h : lv_has la nL ((i, pj_v ad v) :: (pj_prs ad 0 ls).filter (fun q => !(q.1 == i) && (!(q.1 == i + 1) && !(q.1 + 1 == i && q.2.category == 2))))) : pj_L ad nL (pj_s2 ls i v) la := by
  refine ⟨h.1, h.2.1, fun j w hw => ?_⟩
  obtain ⟨n1, hw⟩ := pj_g_cl _ _ _ _ hw
  rcases pj_g_s1 ls i v j w hw with ⟨rfl, rfl⟩ | ⟨a, b, c⟩
  · exact h.2.2 _ List.mem_cons_self
  · refine h.2.2 (j, pj_v ad w) (List.mem_cons_of_mem _ (List.mem_filter.mpr ⟨?_, ?_⟩))
    · have := pj_prs_to (ad := ad) ls 0 j w b
      rwa [Nat.zero_add] at this
    · by_cases hj : j + 1 = i
      · simp [a, n1, pj_v_cat (c hj)]
      · simp [a, n1, hj]
/-- the evidence of a plain instruction at pc: what the bytes say -/
def pj_okn (own : String) (cc : ByteArray) (nL : Nat) (lc : Nat → Int64) (pc : Nat) (i : Instr) (nx : Nat) (im : Int32) : Prop := match i with
  | .iconst _ => (∃ n, decode cc pc = .ok (.iconst n, 1) ∧ Int32.ofInt n = im ∧ nx = pc + 1) ∨ (∃ n, decode cc pc = .ok (.bipush n, 2) ∧ (Int8.ofInt n).toInt32 = im ∧ nx = pc + 2) ∨ (∃ n, decode cc pc = .ok (.sipush n, 3) ∧ (Int16.ofInt n).toInt32 = im ∧ nx = pc + 3)
      ∨ (∃ k, decode cc pc = .ok (.ldc k, 2) ∧ Cond.constant own k im ∈ lw_all ∧ nx = pc + 2) ∨ (∃ k, decode cc pc = .ok (.ldc_w k, 3) ∧ Cond.constant own k im ∈ lw_all ∧ nx = pc + 3)
  | .ldc2_w k => (∃ n : Fin 2, decode cc pc = .ok (.lconst n, 1) ∧ Int64.ofNat (n : Nat) = lc k ∧ nx = pc + 1) ∨ (∃ j, decode cc pc = .ok (.ldc2_w j, 3) ∧ Cond.constantLong own j (lc k) ∈ lw_all ∧ nx = pc + 3)
  | .iinc n _ => ∃ k, decode cc pc = .ok (.iinc n k, 3) ∧ Int32.ofInt k = im ∧ n < nL ∧ nx = pc + 3
  | .iload n => decode cc pc = .ok (.iload n, 2) ∧ nx = pc + 2
  | .lload n => decode cc pc = .ok (.lload n, 2) ∧ nx = pc + 2
  | .aload n => decode cc pc = .ok (.aload n, 2) ∧ nx = pc + 2
  | .istore n => decode cc pc = .ok (.istore n, 2) ∧ n < nL ∧ nx = pc + 2
  | .lstore n => decode cc pc = .ok (.lstore n, 2) ∧ n + 1 < nL ∧ nx = pc + 2
  | .astore n => decode cc pc = .ok (.astore n, 2) ∧ n < nL ∧ nx = pc + 2
  | .istore_n n => decode cc pc = .ok (.istore_n n, 1) ∧ n.val < nL ∧ nx = pc + 1
  | .lstore_n n => decode cc pc = .ok (.lstore_n n, 1) ∧ n.val + 1 < nL ∧ nx = pc + 1
  | .astore_n n => decode cc pc = .ok (.astore_n n, 1) ∧ n.val < nL ∧ nx = pc + 1
  | i => decode cc pc = .ok (i, 1) ∧ nx = pc + 1
section pjnW
variable {p : Program} {l : Launch} {e : Env} {R : Room} {s : State} {m : MethodId} {args : Array Value} {below : List Frame} {meth : Method} {c : Code} {H : Heap} {locs : List Loc} {cells slots : Nat} {Q : State → Prop}
theorem pj_c1 {ad : Nat → Nat} (x : Option Nat ⊕ UInt32) : (pj_v ad (.inr (.inr x))).category = 1 := by
  rcases x with x | x
  · exact pj_rf_cat _
  · rfl
set_option maxHeartbeats 4000000 in
theorem pj_n_W {cc : ByteArray} {own : String} {nL : Nat} {lc : Nat → Int64} {ad : Nat → Nat} {pc nx : Nat} {i : Instr} {im : Int32} {ls ls' : pj_Ls} {st st' : List pj_V} {la : Array Slot}
    (hx : p.tables.exec = Jvm.exec) (hb : c.code = cc) (hown : s.vm.findClass own = some m.cls) (hts : ∀ w ∈ lw_all, w.before args s = true)
    (ok : pj_okn own cc nL lc pc i nx im) (h : pj_n lc i im ls st = some (ls', st')) (hL : pj_L ad nL ls la)
    (kk : ∀ la', pj_L ad nL ls' la' → W p l e R s m args below meth c H locs cells slots Q (F0 m nx la' (st'.map (pj_v ad)))) :
    W p l e R s m args below meth c H locs cells slots Q (F0 m pc la (st.map (pj_v ad))) := by
  unfold pj_n at h
  split at h
  · cases h
    rcases ok with ⟨n, hd, rfl, rfl⟩ | ⟨n, hd, rfl, rfl⟩ | ⟨n, hd, rfl, rfl⟩ | ⟨k, hd, hw, rfl⟩ | ⟨k, hd, hw, rfl⟩
    · exact lv_iconst hx hb hd rfl (kk _ hL)
    · exact lv_bipush hx hb hd rfl (kk _ hL)
    · exact lv_sipush hx hb hd rfl (kk _ hL)
    · exact lv_ldc hx hb hown (hts _ hw) hd (kk _ hL)
    · exact lv_ldcw hx hb hown (hts _ hw) hd (kk _ hL)
  · cases h
    rcases ok with ⟨n, hd, hn, rfl⟩ | ⟨k, hd, hw, rfl⟩
    · exact lv_lconst hx hb hd hn (kk _ hL)
    · exact lv_ldc2 hx hb hown (hts _ hw) hd (kk _ hL)
  · cases h
    obtain ⟨hd, rfl⟩ := ok
    exact lv_null hx hb hd (kk _ hL)
  · split at h
    · rename_i hg
      cases h
      obtain ⟨hd, rfl⟩ := ok
      exact lv_iload_n hx hb hd rfl (hL.2.2 _ _ hg) (kk _ hL)
    · cases h
  · split at h
    · rename_i hg
      cases h
      obtain ⟨hd, rfl⟩ := ok
      exact lv_iload hx hb hd (hL.2.2 _ _ hg) (kk _ hL)
    · cases h
  · split at h
    · rename_i hg
      cases h
      obtain ⟨hd, rfl⟩ := ok
      exact lv_lload_n hx hb hd rfl (hL.2.2 _ _ hg) (kk _ hL)
    · cases h
  · split at h
    · rename_i hg
      cases h
      obtain ⟨hd, rfl⟩ := ok
      exact lv_lload hx hb hd (hL.2.2 _ _ hg) (kk _ hL)
    · cases h
  · split at h
    · rename_i x hg
      cases h
      obtain ⟨hd, rfl⟩ := ok
      cases x with
      | none => exact lv_aload_nN hx hb hd rfl (hL.2.2 _ _ hg) (kk _ hL)
      | some x => exact lv_aload_n hx hb hd rfl (hL.2.2 _ _ hg) (kk _ hL)
    · cases h
  · split at h
    · rename_i x hg
      cases h
      obtain ⟨hd, rfl⟩ := ok
      cases x with
      | none => exact lv_aloadN hx hb hd (hL.2.2 _ _ hg) (kk _ hL)
      | some x => exact lv_aload hx hb hd (hL.2.2 _ _ hg) (kk _ hL)
    · cases h
  · cases h
    obtain ⟨hd, hn, rfl⟩ := ok
    exact lv_istore_n hx hb hd rfl hL.has hn rfl (fun la' h' => kk _ (pj_L.s1 h'))
  · cases h
    obtain ⟨hd, hn, rfl⟩ := ok
    exact lv_istore hx hb hd hL.has hn rfl (fun la' h' => kk _ (pj_L.s1 h'))
  · cases h
    obtain ⟨hd, hn, rfl⟩ := ok
    exact lv_lstore_n hx hb hd rfl hL.has hn rfl (fun la' h' => kk _ (pj_L.s2 h'))
  · cases h
    obtain ⟨hd, hn, rfl⟩ := ok
    exact lv_lstore hx hb hd hL.has hn rfl (fun la' h' => kk _ (pj_L.s2 h'))
  · rename_i x _
    cases h
    obtain ⟨hd, hn, rfl⟩ := ok
    cases x with
    | none => exact lv_astore_nN hx hb hd rfl hL.has hn rfl (fun la' h' => kk _ (pj_L.s1 h'))
    | some x => exact lv_astore_n hx hb hd rfl hL.has hn rfl (fun la' h' => kk _ (pj_L.s1 h'))
  · rename_i x _
    cases h
    obtain ⟨hd, hn, rfl⟩ := ok
    cases x with
    | none => exact lv_astoreN hx hb hd hL.has hn rfl (fun la' h' => kk _ (pj_L.s1 h'))
    | some x => exact lv_astore hx hb hd hL.has hn rfl (fun la' h' => kk _ (pj_L.s1 h'))
  · split at h
    · rename_i x hg
      cases h
      obtain ⟨k, hd, rfl, hn, rfl⟩ := ok
      have hm := pj_prs_to (ad := ad) _ 0 _ _ hg
      rw [Nat.zero_add] at hm
      obtain ⟨j, hj⟩ := List.getElem?_of_mem hm
      exact lv_iinc hx hb hd hL.has hj rfl hn rfl (fun la' h' => kk _ (pj_L.s1 (v := vi_ _) h'))
    · cases h
  · cases h
    obtain ⟨hd, rfl⟩ := ok
    exact lv_pop hx hb hd rfl (kk _ hL)
  · cases h
    obtain ⟨hd, rfl⟩ := ok
    exact lv_pop hx hb hd (pj_c1 _) (kk _ hL)
  · cases h
    obtain ⟨hd, rfl⟩ := ok
    exact lv_dup hx hb hd rfl (kk _ hL)
  · cases h
    obtain ⟨hd, rfl⟩ := ok
    exact lv_dup hx hb hd (pj_c1 _) (kk _ hL)
  · cases h
    obtain ⟨hd, rfl⟩ := ok
    exact lv_dup_x1 hx hb hd rfl rfl (kk _ hL)
  · cases h
    obtain ⟨hd, rfl⟩ := ok
    exact lv_dup_x1 hx hb hd rfl (pj_c1 _) (kk _ hL)
  · cases h
    obtain ⟨hd, rfl⟩ := ok
    exact lv_dup_x1 hx hb hd (pj_c1 _) (pj_c1 _) (kk _ hL)
  · cases h
    obtain ⟨hd, rfl⟩ := ok
    exact lv_dup2_11 hx hb hd rfl (pj_c1 _) (kk _ hL)
  · cases h
    obtain ⟨hd, rfl⟩ := ok
    exact lv_iadd hx hb hd (kk _ hL)
  · cases h
    obtain ⟨hd, rfl⟩ := ok
    exact lv_isub hx hb hd (kk _ hL)
  · cases h
    obtain ⟨hd, rfl⟩ := ok
    exact lv_imul hx hb hd (kk _ hL)
  · cases h
    obtain ⟨hd, rfl⟩ := ok
    exact lv_iand hx hb hd (kk _ hL)
  · cases h
    obtain ⟨hd, rfl⟩ := ok
    exact lv_ior hx hb hd (kk _ hL)
  · cases h
    obtain ⟨hd, rfl⟩ := ok
    exact lv_ixor hx hb hd (kk _ hL)
  · cases h
    obtain ⟨hd, rfl⟩ := ok
    exact lv_ineg hx hb hd (kk _ hL)
  · cases h
    obtain ⟨hd, rfl⟩ := ok
    exact lv_ishl hx hb hd (kk _ hL)
  · cases h
    obtain ⟨hd, rfl⟩ := ok
    exact lv_ishr hx hb hd (kk _ hL)
  · cases h
    obtain ⟨hd, rfl⟩ := ok
    exact lv_iushr hx hb hd rfl (kk _ hL)
  · cases h
    obtain ⟨hd, rfl⟩ := ok
    exact lv_i2b hx hb hd rfl (kk _ hL)
  · cases h
    obtain ⟨hd, rfl⟩ := ok
    exact lv_i2c hx hb hd rfl (kk _ hL)
  · cases h
    obtain ⟨hd, rfl⟩ := ok
    exact lv_i2l hx hb hd rfl (kk _ hL)
  · cases h
    obtain ⟨hd, rfl⟩ := ok
    exact lv_l2i hx hb hd rfl (kk _ hL)
  · cases h
    obtain ⟨hd, rfl⟩ := ok
    exact lv_ladd hx hb hd (kk _ hL)
  · cases h
    obtain ⟨hd, rfl⟩ := ok
    exact lv_lsub hx hb hd (kk _ hL)
  · cases h
    obtain ⟨hd, rfl⟩ := ok
    exact lv_lmul hx hb hd (kk _ hL)
  · cases h
    obtain ⟨hd, rfl⟩ := ok
    exact lv_lneg hx hb hd (kk _ hL)
  · cases h
    obtain ⟨hd, rfl⟩ := ok
    exact lv_lshr hx hb hd rfl (kk _ hL)
  · cases h
    obtain ⟨hd, rfl⟩ := ok
    exact W.lcmp hx hb hd (kk _ hL)
  · cases h
end pjnW
