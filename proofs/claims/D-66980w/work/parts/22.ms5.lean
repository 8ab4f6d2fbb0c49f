/-! ===== the contract of every method of the reference's class: what the pure machine answers ===== -/
def mm_sA (n : Nat) : Prop := ∀ (d m : Nat) (as : List pj_V) (s : mm_S) (q : Option pj_V × mm_S), pj_fx mm_F n (d, m, 0, as, [], s) = some q → mm_mok m → ∀ (l : Launch) (D : va_G) (c3 : Nat → ClassId) (ad : Nat → Nat), mm_Cal l D c3 ad d m as s q.1 q.2
def mm_sB (n : Nat) : Prop := ∀ (p : Program) (l : Launch) (e : Env) (s0 : State) (m : MethodId) (args : Array Value) (below : List Frame) (meth : Method) (c : Code) (D : va_G) (c3 : Nat → ClassId) (ad : Nat → Nat) (d f : Nat), mm_Fx p s0 m args meth c D c3 f → mm_WJ p l e s0 m args below meth c D c3 ad d f (fun pc vs st s => pj_fx mm_F n (d + 1, f, pc + 1, vs, st, s))
theorem mm_sAB : ∀ n, mm_sA n ∧ mm_sB n := by
  intro n
  induction n with
  | zero =>
    constructor
    · intro d m as s q h
      cases h
    · intro p l e s0 m args below meth c D c3 ad d f X pc vs st s q h
      cases h
  | succ n ih =>
    obtain ⟨ihA, ihB⟩ := ih
    constructor
    · intro d m as s q h hok l D c3 ad sz
      cases d with
      | zero => cases h
      | succ d =>
        have h : mm_G0 (pj_fx mm_F n) d m as s = some q := h
        unfold mm_G0 at h
        split at h
        · rename_i hfit
          obtain ⟨hcode, hcls, h2, -⟩ := id hok
          simp only [Bool.and_eq_true] at h2
          refine Met.ofW (cc := mby_ m) (maxL := mt_nL m) (ret := mrt_ m) (by rw [hcls]; decide) rfl ?_
          intro p e s0 mid args below meth c s₁ B hml hv
          obtain ⟨rfl, rfl, hP, hK, hD⟩ := hv
          have hts := atoms_spec (ws := ws_ (my_ m) (mby_ m) (mt_nL m) (mrt_ m)) B.pre
          have hts : ∀ w ∈ lw_all, w.before _ s0 = true := fun w h => hts w (List.mem_cons_of_mem _ h)
          have hown : s0.vm.findClass RX8 = some mid.cls := by
            rw [← hcls]
            exact findClass_of_methodNamed B.named
          have X : mm_Fx p s0 mid (as.map (pj_v ad)).toArray meth c D c3 m := ⟨B.exec, B.bytes, B.returns, B.notSynchronized, hml, hown, hts, hK, hok⟩
          rw [lg_entry_eq]
          exact mm_B_W X (fun k as s q hq hk => ihA _ _ _ _ _ hq hk l D c3 ad) (ihB p l e s0 mid _ below meth c D c3 ad d m X) 1000 (mt_code m) (pj_en (mt_nL m) as) [] s q ⟨[], rfl⟩ h 0 (pj_h0_ok h2.1) _ s0.heap [] (pj_L.entry (Nat.le_of_ble_eq_true hfit)) ⟨hP, mm_D_A hD, va_S.rf⟩
        · cases h
    · intro p l e s0 mid args below meth c D c3 ad d f X pc vs st s q h i nx im lv rows hat la H locs hL S
      have h : mm_G (pj_fx mm_F n) d f pc vs st s = some q := h
      unfold mm_G at h
      rw [hat] at h
      have hsf := pj_at_sfx (mt_code f) pc
      rw [hat] at hsf
      exact mm_B_W X (fun k as s q hq hk => ihA _ _ _ _ _ hq hk l D c3 ad) (ihB p l e s0 mid _ below meth c D c3 ad d f X) 1000 _ (pj_mk (mt_nL f) lv vs) st s q hsf h pc (fun e' r' he => by cases he; rfl) la H locs hL S
theorem mE_met {d m : Nat} {as : List pj_V} {s : mm_S} {r : Option pj_V} {s' : mm_S} (h : mE d m as s = some (r, s')) (hok : mm_mok m) (l : Launch) (D : va_G) (c3 : Nat → ClassId) (ad : Nat → Nat) (sz : Nat) : Met l (my_ m) (ws_ (my_ m) (mby_ m) (mt_nL m) (mrt_ m)) (mm_rm d) (mm_Pc D c3 ad s sz as) (mm_Qc D c3 ad sz r s') 0 0 (mm_A ad sz) := by
  obtain ⟨n, hn⟩ := (pj_lfp_iff mm_F_mono _ _).mp h
  exact (mm_sAB n).1 d m as s (r, s') hn hok l D c3 ad sz
