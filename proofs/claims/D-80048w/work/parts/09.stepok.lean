set_option maxRecDepth 100000
/-! what the plain steps keep -/
theorem am_ld_sp {t k : Nat} {ls st st' : List am_V} (h : am_ld t k ls st = some st') : ∃ x, ls[k]? = some (t, x) ∧ st' = (t, x) :: st := by
  unfold am_ld at h
  split at h
  · split at h
    · rename_i e c
      subst c
      exact ⟨_, e, (Option.some.inj h).symm⟩
    · cases h
  · cases h
theorem am_sto_sp {t k : Nat} {ls st : List am_V} {q : List am_V × List am_V} (h : am_sto t k ls st = some q) : ∃ x r, st = (t, x) :: r ∧ q.2 = r ∧ ((t = 1 ∧ k + 1 < ls.length ∧ q.1 = am_st2 ls k (t, x)) ∨ (t ≠ 1 ∧ k < ls.length ∧ q.1 = am_st1 ls k (t, x))) := by
  unfold am_sto at h
  split at h
  · rename_i t' x r
    split at h
    · rename_i c
      subst c
      refine ⟨x, r, rfl, ?_⟩
      split at h
      · rename_i c1
        split at h
        · rename_i c2
          have e := (Option.some.inj h).symm
          subst e
          exact ⟨rfl, Or.inl ⟨c1, c2, rfl⟩⟩
        · cases h
      · rename_i c1
        split at h
        · rename_i c2
          have e := (Option.some.inj h).symm
          subst e
          exact ⟨rfl, Or.inr ⟨c1, c2, rfl⟩⟩
        · cases h
    · cases h
  · cases h
theorem am_b32_sp {f : Int → Int → Option Int} {st st' : List am_V} (h : am_b32 f st = some st') : ∃ a b q x, st = (0, b) :: (0, a) :: q ∧ f a b = some x ∧ st' = (0, x) :: q := by
  unfold am_b32 at h
  split at h
  · rename_i b a q
    obtain ⟨x, h1, h2⟩ := Option.map_eq_some_iff.mp h
    exact ⟨a, b, q, x, rfl, h1, h2.symm⟩
  · cases h
theorem am_b64_sp {f : Int → Int → Option Int} {st st' : List am_V} (h : am_b64 f st = some st') : ∃ a b q x, st = (1, b) :: (1, a) :: q ∧ f a b = some x ∧ st' = (1, x) :: q := by
  unfold am_b64 at h
  split at h
  · rename_i b a q
    obtain ⟨x, h1, h2⟩ := Option.map_eq_some_iff.mp h
    exact ⟨a, b, q, x, rfl, h1, h2.symm⟩
  · cases h
theorem am_ald_sp {kd : Int → Bool} {t : Nat} {st st' : List am_V} {h : am_H} (e : am_ald kd t st h = some st') : ∃ i a r, st = (0, i) :: (2, a) :: r ∧ kd (am_k h a) = true ∧ 0 ≤ i ∧ i < am_l h a ∧ st' = (t, am_v h a i) :: r := by
  unfold am_ald at e
  split at e
  · rename_i i a r
    split at e
    · rename_i c
      exact ⟨i, a, r, rfl, c.1, c.2.1, c.2.2, (Option.some.inj e).symm⟩
    · cases e
  · cases e
theorem am_ast_sp {kd : Int → Bool} {t : Nat} {st : List am_V} {h : am_H} {q : List am_V × am_H} (e : am_ast kd t st h = some q) : ∃ v i a x, st = (t, v) :: (0, i) :: (2, a) :: q.1 ∧ kd (am_k h a) = true ∧ 0 ≤ a ∧ 0 ≤ i ∧ i < am_l h a ∧ am_fit h (am_k h a) v = some x ∧ q.2 = am_set h a i x := by
  unfold am_ast at e
  split at e
  · rename_i t' v i a r
    split at e
    · rename_i c
      obtain ⟨x, h1, h2⟩ := Option.map_eq_some_iff.mp e
      obtain ⟨rfl, c2, c3, c4, c5⟩ := c
      subst h2
      exact ⟨v, i, a, x, rfl, c2, c3, c4, c5, h1, rfl⟩
    · cases e
  · cases e
theorem am_kill_len (ls : List am_V) (k : Nat) : (am_kill ls k).length = ls.length := by
  unfold am_kill
  split
  · rfl
  · split
    · exact List.length_set
    · rfl
theorem am_kill_ok {n : Int} {ls : List am_V} (h : am_lok n ls) (k : Nat) : am_lok n (am_kill ls k) := by
  unfold am_kill
  split
  · exact h
  · split
    · exact am_lok_set h am_vok_3 _
    · exact h
theorem am_st1_ok {n : Int} {ls : List am_V} (h : am_lok n ls) (k : Nat) {v : am_V} (hv : am_vok n v) : am_lok n (am_st1 ls k v) ∧ (am_st1 ls k v).length = ls.length :=
  ⟨am_lok_set (am_kill_ok h k) hv k, by unfold am_st1; rw [List.length_set, am_kill_len]⟩
theorem am_st2_ok {n : Int} {ls : List am_V} (h : am_lok n ls) (k : Nat) {v : am_V} (hv : am_vok n v) : am_lok n (am_st2 ls k v) ∧ (am_st2 ls k v).length = ls.length :=
  ⟨am_lok_set (am_lok_set (am_kill_ok h k) hv k) am_vok_3 (k + 1), by unfold am_st2; rw [List.length_set, List.length_set, am_kill_len]⟩
/-- what a step gives -/
def am_stp (L : Int) (xs : Int → Int) (h : am_H) (ls : List am_V) (h' : am_H) (ls' st' : List am_V) : Prop := am_hok L xs h' ∧ am_mn h h' ∧ am_lok (am_n h') ls' ∧ am_lok (am_n h') st' ∧ ls'.length = ls.length
theorem am_rg32_sp {c : Int} (h : am_rg32 c = true) : am_r32 c := by
  unfold am_rg32 at h
  simp only [Bool.and_eq_true, decide_eq_true_eq] at h
  exact h
theorem am_rg64_sp {c : Int} (h : am_rg64 c = true) : am_r64 c := by
  unfold am_rg64 at h
  simp only [Bool.and_eq_true, decide_eq_true_eq] at h
  exact h
theorem am_ftx : ∀ ci : Fin 11, ∀ j : Fin 128, j.val < am_fn ci.val → am_ft ci.val j.val = 0 ∨ am_ft ci.val j.val = 1 ∨ am_ft ci.val j.val = 2 ∨ am_ft ci.val j.val = 4 := by decide +kernel
theorem am_fnx : ∀ ci : Fin 11, am_fn ci.val < 128 := by decide +kernel
theorem am_ft4 {ci j : Nat} (hc : ci < 11) (hj : j < am_fn ci) : am_ft ci j = 0 ∨ am_ft ci j = 1 ∨ am_ft ci j = 2 ∨ am_ft ci j = 4 :=
  am_ftx ⟨ci, hc⟩ ⟨j, Nat.lt_trans hj (am_fnx ⟨ci, hc⟩)⟩ hj
theorem am_z_ok (h : am_H) (H : 0 ≤ am_n h) (ci j : Nat) (hc : ci < 11) (hj : j < am_fn ci) : am_fdok h (am_ft ci j) (am_z ci j) := by
  have key : ∀ t : Nat, (t = 0 ∨ t = 1 ∨ t = 2 ∨ t = 4) → am_fdok h t (if t = 2 then -1 else 0) := by
    intro t ht
    unfold am_fdok am_r32 am_r64
    rcases ht with rfl | rfl | rfl | rfl <;> simp <;> omega
  have := key _ (am_ft4 hc hj)
  unfold am_z
  rw [Int.toNat_natCast]
  exact this
theorem am_idiv_ok {a b x : Int} (h : am_idiv a b = some x) : am_r32 x := by
  unfold am_idiv at h
  split at h
  · cases h
  · cases h; exact am_t32 _
theorem am_ldiv_ok {a b x : Int} (h : am_ldiv a b = some x) : am_r64 x := by
  unfold am_ldiv at h
  split at h
  · cases h
  · cases h; exact am_t64 _
theorem am_lrem_ok {a b x : Int} (h : am_lrem a b = some x) : am_r64 x := by
  unfold am_lrem at h
  split at h
  · cases h
  · cases h; exact am_t64 _
section
variable {L : Int} {xs : Int → Int} {y pc nx : Nat} {r : List Int} {ls st ls' st' : List am_V} {h h' : am_H}
theorem am_ok_ld {t k : Nat} (hh : am_hok L xs h) (hl : am_lok (am_n h) ls) (hs : am_lok (am_n h) st) (e : (am_ld t k ls st).map (fun st' => (ls, st', h)) = some (ls', st', h')) : am_stp L xs h ls h' ls' st' := by
  obtain ⟨q, h1, h2⟩ := Option.map_eq_some_iff.mp e
  obtain ⟨x, h3, rfl⟩ := am_ld_sp h1
  cases h2
  exact ⟨hh, am_mn.rf _, hl, am_lok_c (hl _ (List.mem_of_getElem? h3)) hs, rfl⟩
theorem am_ok_sto {t k : Nat} (hh : am_hok L xs h) (hl : am_lok (am_n h) ls) (hs : am_lok (am_n h) st) (e : (am_sto t k ls st).map (fun q => (q.1, q.2, h)) = some (ls', st', h')) : am_stp L xs h ls h' ls' st' := by
  obtain ⟨q, h1, h2⟩ := Option.map_eq_some_iff.mp e
  obtain ⟨x, r, rfl, h3, h4⟩ := am_sto_sp h1
  cases h2
  rw [← h3] at hs
  obtain ⟨g1, g2⟩ := am_lok_t hs
  rcases h4 with ⟨_, _, h4⟩ | ⟨_, _, h4⟩
  · rw [h4]; exact ⟨hh, am_mn.rf _, (am_st2_ok hl k g1).1, g2, (am_st2_ok hl k g1).2⟩
  · rw [h4]; exact ⟨hh, am_mn.rf _, (am_st1_ok hl k g1).1, g2, (am_st1_ok hl k g1).2⟩
theorem am_ok_b32 {f : Int → Int → Option Int} (hf : ∀ a b x, f a b = some x → am_r32 x) (hh : am_hok L xs h) (hl : am_lok (am_n h) ls) (hs : am_lok (am_n h) st) (e : (am_b32 f st).map (fun st' => (ls, st', h)) = some (ls', st', h')) : am_stp L xs h ls h' ls' st' := by
  obtain ⟨q, h1, h2⟩ := Option.map_eq_some_iff.mp e
  obtain ⟨a, b, q', x, rfl, h3, rfl⟩ := am_b32_sp h1
  cases h2
  exact ⟨hh, am_mn.rf _, hl, am_lok_c (am_vok_i (hf _ _ _ h3)) (am_lok_t (am_lok_t hs).2).2, rfl⟩
theorem am_ok_b64 {f : Int → Int → Option Int} (hf : ∀ a b x, f a b = some x → am_r64 x) (hh : am_hok L xs h) (hl : am_lok (am_n h) ls) (hs : am_lok (am_n h) st) (e : (am_b64 f st).map (fun st' => (ls, st', h)) = some (ls', st', h')) : am_stp L xs h ls h' ls' st' := by
  obtain ⟨q, h1, h2⟩ := Option.map_eq_some_iff.mp e
  obtain ⟨a, b, q', x, rfl, h3, rfl⟩ := am_b64_sp h1
  cases h2
  exact ⟨hh, am_mn.rf _, hl, am_lok_c (am_vok_l (hf _ _ _ h3)) (am_lok_t (am_lok_t hs).2).2, rfl⟩
/-- what lies in an array -/
theorem am_el (hh : am_hok L xs h) {a i : Int} (hL : 0 ≤ L) (hx : ∀ i, am_r32 (xs i)) (hk1 : 16 ≤ am_k h a) (hk2 : am_k h a ≤ 23) (h0 : 0 ≤ i) (hi : i < am_l h a) : am_elok h (am_k h a) (am_v h a i) := by
  by_cases c : 0 ≤ a
  · have hn : a < am_n h := am_inh hh (by omega)
    rcases hh.2.2.1 a c hn with h1 | h1
    · omega
    · exact h1.2.2.2.2 i h0 hi
  · obtain ⟨g1, g2, g3⟩ := hh.2.2.2.2 a (by omega)
    rw [g3, g1]
    rw [g1] at hk1 hk2
    unfold am_k0 at *
    split
    · rename_i e
      unfold am_elok am_v0
      rw [if_pos rfl, if_pos e]
      exact hx i
    · rename_i e
      rw [if_neg e] at hk1 hk2
      split
      · rename_i e1
        rw [if_pos e1] at hk1 hk2
        split
        · rename_i e2; rw [if_pos e2] at hk2; omega
        · unfold am_elok am_v0
          rw [if_neg (by omega), if_pos rfl, if_neg e]
          exact am_strb _ _
      · rename_i e1; rw [if_neg e1] at hk1; omega
theorem am_len_ok (hh : am_hok L xs h) {a : Int} (hL : 0 ≤ L) (hL2 : L ≤ 1000000) (hk1 : 16 ≤ am_k h a) (hk2 : am_k h a ≤ 23) : am_r32 (am_l h a) := by
  unfold am_r32
  by_cases c : 0 ≤ a
  · have hn : a < am_n h := am_inh hh (by omega)
    rcases hh.2.2.1 a c hn with h1 | h1 <;> omega
  · obtain ⟨g1, g2, g3⟩ := hh.2.2.2.2 a (by omega)
    rw [g2]
    unfold am_l0
    split
    · omega
    · split
      · have := am_strl (am_si a)
        omega
      · omega
theorem am_prm_sp {t : ArrayType} {k : Int} (h : am_prm t k = true) : 16 ≤ k ∧ k ≤ 19 := by
  unfold am_prm at h
  split at h
  all_goals first | (simp only [decide_eq_true_eq] at h; omega) | cases h
theorem am_ok_ald {kd : Int → Bool} {t : Nat} (hL : 0 ≤ L) (hx : ∀ i, am_r32 (xs i)) (hkd : ∀ k, kd k = true → 16 ≤ k ∧ k ≤ 23 ∧ ((t = 0 ∧ k ≤ 18) ∨ (t = 1 ∧ k = 19) ∨ (t = 2 ∧ 20 ≤ k))) (hh : am_hok L xs h) (hl : am_lok (am_n h) ls) (hs : am_lok (am_n h) st) (e : (am_ald kd t st h).map (fun st' => (ls, st', h)) = some (ls', st', h')) : am_stp L xs h ls h' ls' st' := by
  obtain ⟨q, h1, h2⟩ := Option.map_eq_some_iff.mp e
  obtain ⟨i, a, r, rfl, h3, h4, h5, rfl⟩ := am_ald_sp h1
  cases h2
  obtain ⟨k1, k2, k3⟩ := hkd _ h3
  have he := am_el hh hL hx k1 k2 h4 h5
  refine ⟨hh, am_mn.rf _, hl, am_lok_c ?_ (am_lok_t (am_lok_t hs).2).2, rfl⟩
  unfold am_elok at he
  rcases k3 with ⟨rfl, k3⟩ | ⟨rfl, k3⟩ | ⟨rfl, k3⟩
  · apply am_vok_i
    unfold am_r32 at *
    repeat' split at he
    all_goals omega
  · apply am_vok_l
    rw [k3] at he
    exact he
  · apply am_vok_r
    rw [if_neg (by omega), if_neg (by omega), if_neg (by omega), if_neg (by omega)] at he
    have := hh.1
    unfold am_rok
    omega
theorem am_ok_ast {kd : Int → Bool} {t : Nat} (hkd : ∀ k, kd k = true → 16 ≤ k ∧ k ≤ 23 ∧ ((t = 0 ∧ k ≤ 18) ∨ (t = 1 ∧ k = 19) ∨ (t = 2 ∧ 20 ≤ k))) (hh : am_hok L xs h) (hl : am_lok (am_n h) ls) (hs : am_lok (am_n h) st) (e : (am_ast kd t st h).map (fun q => (ls, q.1, q.2)) = some (ls', st', h')) : am_stp L xs h ls h' ls' st' := by
  obtain ⟨q, h1, h2⟩ := Option.map_eq_some_iff.mp e
  obtain ⟨v, i, a, x, h3, h4, h5, h6, h7, h8, h9⟩ := am_ast_sp h1
  cases h2
  rw [h3] at hs
  obtain ⟨g1, g2⟩ := am_lok_t hs
  have hst := (am_lok_t (am_lok_t g2).2).2
  obtain ⟨k1, k2, k3⟩ := hkd _ h4
  rw [h9]
  refine ⟨am_set_ok hh h5 (fun j _ _ _ => by omega) (fun _ => ?_), am_set_mo _ _ _ _, hl, hst, rfl⟩
  unfold am_fit at h8
  unfold am_elok
  have hb := am_i2b_rng v
  split at h8
  · rename_i c
    rw [if_neg (by omega), if_pos c]
    cases h8
    exact hb
  · rename_i c
    split at h8
    · rename_i c2
      rw [if_neg (by omega), if_neg (by omega), if_pos c2]
      split at h8
      · rename_i c3; cases h8; exact c3
      · cases h8
    · rename_i c2
      split at h8
      · rename_i c3
        cases h8
        rcases c3 with c3 | c3
        · rw [if_pos c3]
          have : t = 0 := by omega
          exact g1.1 this
        · rw [if_neg (by omega), if_neg (by omega), if_neg (by omega), if_pos c3]
          have : t = 1 := by omega
          exact g1.2.1 this
      · rename_i c3
        rw [if_neg (by omega), if_neg (by omega), if_neg (by omega), if_neg (by omega)]
        split at h8
        · rename_i c4
          cases h8
          have hx9 : ∀ k : Int, am_ec k ≠ -9 := by intro k; unfold am_ec; repeat' split; all_goals omega
          rcases c4 with c4 | c4
          · exact Or.inl c4
          · exact Or.inr ⟨c4.1, am_inh hh (by rw [c4.2]; exact hx9 _), c4.2⟩
        · cases h8
theorem am_step_ok (hL : 0 ≤ L) (hL2 : L ≤ 1000000) (hx : ∀ i, am_r32 (xs i)) {i : Instr} (hok : am_okI y i r pc (some nx) = true) (hh : am_hok L xs h) (hl : am_lok (am_n h) ls) (hs : am_lok (am_n h) st) (e : am_st i r ls st h = some (ls', st', h')) : am_stp L xs h ls h' ls' st' := by
  have kp : ∀ v : am_V, am_vok (am_n h) v → am_stp L xs h ls h ls (v :: st) := fun v hv => ⟨hh, am_mn.rf _, hl, am_lok_c hv hs, rfl⟩
  cases i
  case iconst c =>
    simp only [am_okI, Bool.and_eq_true] at hok
    cases e
    exact kp _ (am_vok_i (am_rg32_sp (by simp [*])))
  case bipush c =>
    simp only [am_okI, Bool.and_eq_true] at hok
    cases e
    exact kp _ (am_vok_i (am_rg32_sp (by simp [*])))
  case sipush c =>
    simp only [am_okI, Bool.and_eq_true] at hok
    cases e
    exact kp _ (am_vok_i (am_rg32_sp (by simp [*])))
  case lconst c =>
    cases e
    exact kp _ (am_vok_l (by have := c.isLt; unfold am_r64; omega))
  case ldc x =>
    simp only [am_st] at e
    simp only [am_okI] at hok
    split at e
    · simp only [Bool.and_eq_true] at hok
      cases e
      exact kp _ (am_vok_i (am_rg32_sp hok.2.2))
    · simp only [Bool.and_eq_true, decide_eq_true_eq] at hok
      cases e
      exact kp _ (am_vok_r (by unfold am_rok; omega))
    · cases e
  case ldc_w x =>
    simp only [am_st] at e
    simp only [am_okI] at hok
    split at e
    · simp only [Bool.and_eq_true] at hok
      cases e
      exact kp _ (am_vok_i (am_rg32_sp hok.2.2))
    · simp only [Bool.and_eq_true, decide_eq_true_eq] at hok
      cases e
      exact kp _ (am_vok_r (by unfold am_rok; omega))
    · cases e
  case ldc2_w x =>
    simp only [am_st] at e
    simp only [am_okI] at hok
    split at e
    · simp only [Bool.and_eq_true] at hok
      cases e
      exact kp _ (am_vok_l (am_rg64_sp hok.2.2))
    · cases e
  case aconst_null =>
    cases e
    exact kp _ (am_vok_r (by have := hh.1; unfold am_rok; omega))
  case iload_n k => exact am_ok_ld hh hl hs e
  case iload k => exact am_ok_ld hh hl hs e
  case lload_n k => exact am_ok_ld hh hl hs e
  case lload k => exact am_ok_ld hh hl hs e
  case aload_n k => exact am_ok_ld hh hl hs e
  case aload k => exact am_ok_ld hh hl hs e
  case istore_n k => exact am_ok_sto hh hl hs e
  case istore k => exact am_ok_sto hh hl hs e
  case lstore_n k => exact am_ok_sto hh hl hs e
  case lstore k => exact am_ok_sto hh hl hs e
  case astore_n k => exact am_ok_sto hh hl hs e
  case astore k => exact am_ok_sto hh hl hs e
  case iinc k c =>
    simp only [am_st] at e
    split at e
    · cases e
      exact ⟨hh, am_mn.rf _, (am_st1_ok hl k (am_vok_i (am_w_ok _))).1, hs, (am_st1_ok hl k (am_vok_i (am_w_ok _))).2⟩
    · cases e
  case iadd => exact am_ok_b32 (fun a b x hx => by cases hx; exact am_w_ok _) hh hl hs e
  case isub => exact am_ok_b32 (fun a b x hx => by cases hx; exact am_w_ok _) hh hl hs e
  case imul => exact am_ok_b32 (fun a b x hx => by cases hx; exact am_w_ok _) hh hl hs e
  case idiv => exact am_ok_b32 (fun a b x hx => am_idiv_ok hx) hh hl hs e
  case iand => exact am_ok_b32 (fun a b x hx => by cases hx; exact am_t32 _) hh hl hs e
  case ior => exact am_ok_b32 (fun a b x hx => by cases hx; exact am_t32 _) hh hl hs e
  case ishl => exact am_ok_b32 (fun a b x hx => by cases hx; exact am_t32 _) hh hl hs e
  case ishr => exact am_ok_b32 (fun a b x hx => by cases hx; exact am_t32 _) hh hl hs e
  case ladd => exact am_ok_b64 (fun a b x hx => by cases hx; exact am_x_ok _) hh hl hs e
  case lsub => exact am_ok_b64 (fun a b x hx => by cases hx; exact am_x_ok _) hh hl hs e
  case lmul => exact am_ok_b64 (fun a b x hx => by cases hx; exact am_x_ok _) hh hl hs e
  case ldiv => exact am_ok_b64 (fun a b x hx => am_ldiv_ok hx) hh hl hs e
  case lrem => exact am_ok_b64 (fun a b x hx => am_lrem_ok hx) hh hl hs e
  case land => exact am_ok_b64 (fun a b x hx => by cases hx; exact am_t64 _) hh hl hs e
  case lor => exact am_ok_b64 (fun a b x hx => by cases hx; exact am_t64 _) hh hl hs e
  case lxor => exact am_ok_b64 (fun a b x hx => by cases hx; exact am_t64 _) hh hl hs e
  case ineg =>
    simp only [am_st] at e
    split at e
    · cases e
      exact ⟨hh, am_mn.rf _, hl, am_lok_c (am_vok_i (am_w_ok _)) (am_lok_t hs).2, rfl⟩
    · cases e
  case lneg =>
    simp only [am_st] at e
    split at e
    · cases e
      exact ⟨hh, am_mn.rf _, hl, am_lok_c (am_vok_l (am_x_ok _)) (am_lok_t hs).2, rfl⟩
    · cases e
  case i2l =>
    simp only [am_st] at e
    split at e
    · cases e
      exact ⟨hh, am_mn.rf _, hl, am_lok_c (am_vok_l (am_r64_32 ((am_lok_t hs).1.1 rfl))) (am_lok_t hs).2, rfl⟩
    · cases e
  case l2i =>
    simp only [am_st] at e
    split at e
    · cases e
      exact ⟨hh, am_mn.rf _, hl, am_lok_c (am_vok_i (am_w_ok _)) (am_lok_t hs).2, rfl⟩
    · cases e
  case i2b =>
    simp only [am_st] at e
    split at e
    · cases e
      exact ⟨hh, am_mn.rf _, hl, am_lok_c (am_vok_i (am_t32 _)) (am_lok_t hs).2, rfl⟩
    · cases e
  case i2c =>
    simp only [am_st] at e
    split at e
    · cases e
      exact ⟨hh, am_mn.rf _, hl, am_lok_c (am_vok_i (am_t32 _)) (am_lok_t hs).2, rfl⟩
    · cases e
  case lshl =>
    simp only [am_st] at e
    split at e
    · cases e
      exact ⟨hh, am_mn.rf _, hl, am_lok_c (am_vok_l (am_t64 _)) (am_lok_t (am_lok_t hs).2).2, rfl⟩
    · cases e
  case lcmp =>
    simp only [am_st] at e
    split at e
    · cases e
      exact ⟨hh, am_mn.rf _, hl, am_lok_c (am_vok_i (by unfold am_lcmp am_r32; repeat' split; all_goals omega)) (am_lok_t (am_lok_t hs).2).2, rfl⟩
    · cases e
  case dup =>
    simp only [am_st] at e
    split at e
    · split at e
      · cases e
        exact ⟨hh, am_mn.rf _, hl, am_lok_c (am_lok_t hs).1 hs, rfl⟩
      · cases e
    · cases e
  case dup2 =>
    simp only [am_st] at e
    split at e
    · split at e
      · cases e
        exact ⟨hh, am_mn.rf _, hl, am_lok_c (am_lok_t hs).1 (am_lok_c (am_lok_t (am_lok_t hs).2).1 hs), rfl⟩
      · cases e
    · cases e
  case pop =>
    simp only [am_st] at e
    split at e
    · split at e
      · cases e
        exact ⟨hh, am_mn.rf _, hl, (am_lok_t hs).2, rfl⟩
      · cases e
    · cases e
  case pop2 =>
    simp only [am_st] at e
    split at e
    · split at e
      · cases e
        exact ⟨hh, am_mn.rf _, hl, (am_lok_t hs).2, rfl⟩
      · cases e
    · cases e
  case getfield x =>
    simp only [am_st] at e
    simp only [am_okI] at hok
    split at e
    · rename_i ci k a q
      simp only [Bool.and_eq_true, decide_eq_true_eq] at hok
      split at e
      · rename_i c
        split at e
        · rename_i c2
          have ha : a < 0 := by
            by_cases c0 : 0 ≤ a
            · have hn := am_inh hh (a := a) (by omega)
              rcases hh.2.2.1 a c0 hn with h1 | h1 <;> omega
            · omega
          have h1 := (hh.2.2.2.2 a ha).1
          rw [h1] at c2
          unfold am_k0 at c2
          have hr : am_rok (am_n h) (a - 1) := by
            unfold am_rok
            split at c2
            · omega
            · split at c2
              · split at c2
                · omega
                · omega
              · omega
          split at e
          · cases e
            exact ⟨hh, am_mn.rf _, hl, am_lok_c (am_vok_r hr) (am_lok_t hs).2, rfl⟩
          · cases e
            exact ⟨hh, am_mn.rf _, hl, am_lok_c (am_vok_i am_z32) (am_lok_t hs).2, rfl⟩
        · cases e
      · rename_i c
        rw [if_neg c] at hok
        simp only [Bool.and_eq_true, decide_eq_true_eq] at hok
        split at e
        · rename_i c2
          cases e
          obtain ⟨h0, hn, hf⟩ := am_obj hh (a := a) (by omega) (by omega)
          have hfk := hf k.toNat (by rw [c2]; exact hok.2.1.2)
          rw [c2, Int.toNat_of_nonneg hok.1.2] at hfk
          refine ⟨hh, am_mn.rf _, hl, am_lok_c ?_ (am_lok_t hs).2, rfl⟩
          have h4 := am_ft4 (ci := ci.toNat) (j := k.toNat) (by omega) hok.2.1.2
          unfold am_fdok at hfk
          rcases h4 with h4 | h4 | h4 | h4 <;> rw [h4] at hfk ⊢
          · exact am_vok_i hfk
          · exact am_vok_l hfk
          · exact am_vok_r (Or.inl hfk)
          · refine am_vok_i ?_
            simp at hfk
            unfold am_r32
            omega
        · cases e
    · cases e
  case putfield x =>
    simp only [am_st] at e
    simp only [am_okI] at hok
    split at e
    · rename_i ci k t v a q
      simp only [Bool.and_eq_true, decide_eq_true_eq] at hok
      split at e
      · rename_i c
        cases e
        obtain ⟨c1, c2, c3, c4, c5⟩ := c
        have hv := (am_lok_t hs).1
        refine ⟨am_set_ok hh c1 (fun j hj _ _ => ?_) (fun _ => by omega), am_set_mo _ _ _ _, hl, (am_lok_t (am_lok_t hs).2).2, rfl⟩
        have hjk : j = k.toNat := by omega
        have h4 := am_ft4 (ci := ci.toNat) (j := k.toNat) (by omega) (by omega)
        rw [hjk, c2]
        unfold am_fdok
        rcases h4 with h4 | h4 | h4 | h4 <;> rw [h4] at c3 c4 ⊢
        · exact hv.1 c3
        · exact hv.2.1 c3
        · have h5 := hv.2.2 c3
          have h6 := c5 c3
          simp
          unfold am_rok at h5
          omega
        · exact c4 rfl
      · cases e
    · cases e
  case getstatic x =>
    simp only [am_st] at e
    split at e
    · cases e
      exact kp _ (am_vok_i (by unfold am_r32; omega))
    · cases e
      exact kp _ (am_vok_r (by unfold am_rok; omega))
    · cases e
  case iaload => exact am_ok_ald hL hx (fun k hk => by simp only [decide_eq_true_eq] at hk; omega) hh hl hs e
  case baload => exact am_ok_ald hL hx (fun k hk => by simp only [decide_eq_true_eq] at hk; omega) hh hl hs e
  case laload => exact am_ok_ald hL hx (fun k hk => by simp only [decide_eq_true_eq] at hk; omega) hh hl hs e
  case aaload => exact am_ok_ald hL hx (fun k hk => by simp only [decide_eq_true_eq] at hk; omega) hh hl hs e
  case iastore => exact am_ok_ast (fun k hk => by simp only [decide_eq_true_eq] at hk; omega) hh hl hs e
  case bastore => exact am_ok_ast (fun k hk => by simp only [decide_eq_true_eq] at hk; omega) hh hl hs e
  case lastore => exact am_ok_ast (fun k hk => by simp only [decide_eq_true_eq] at hk; omega) hh hl hs e
  case aastore => exact am_ok_ast (fun k hk => by simp only [decide_eq_true_eq] at hk; omega) hh hl hs e
  case arraylength =>
    simp only [am_st] at e
    split at e
    · rename_i a q
      split at e
      · rename_i c
        cases e
        refine ⟨hh, am_mn.rf _, hl, am_lok_c (am_vok_i ?_) (am_lok_t hs).2, rfl⟩
        exact am_len_ok hh hL hL2 c.1 c.2
      · cases e
    · cases e
  case newarray t =>
    simp only [am_st] at e
    simp only [am_okI] at hok
    split at e
    · rename_i k n q
      simp only [Bool.and_eq_true] at hok
      have hk := am_prm_sp hok.2
      split at e
      · rename_i c
        cases e
        have hq := am_new_ok (k := k) (l := n) (z := fun _ => 0) hh c.1 (Or.inr ⟨by omega, by omega, c.2, fun j => by have := am_elok_d h k (by omega) (by omega); rwa [if_pos (by omega)] at this⟩)
        refine ⟨hq.1, hq.2, hl.mono hq.2.1, am_lok_c (am_vok_r (Or.inl ⟨by have := hh.1; omega, ?_⟩)) ((am_lok_t hs).2.mono hq.2.1), rfl⟩
        show am_n h < am_n h + 1
        omega
      · cases e
    · cases e
  case anewarray x =>
    simp only [am_st] at e
    simp only [am_okI] at hok
    split at e
    · rename_i k n q
      simp only [Bool.and_eq_true, decide_eq_true_eq] at hok
      split at e
      · rename_i c
        cases e
        have hq := am_new_ok (k := k) (l := n) (z := fun _ => -1) hh c.1 (Or.inr ⟨by omega, by omega, c.2, fun j => by have := am_elok_d h k (by omega) (by omega); rwa [if_neg (by omega)] at this⟩)
        refine ⟨hq.1, hq.2, hl.mono hq.2.1, am_lok_c (am_vok_r (Or.inl ⟨by have := hh.1; omega, ?_⟩)) ((am_lok_t hs).2.mono hq.2.1), rfl⟩
        show am_n h < am_n h + 1
        omega
      · cases e
    · cases e
  case new x =>
    simp only [am_st] at e
    simp only [am_okI] at hok
    split at e
    · rename_i ci
      simp only [Bool.and_eq_true, decide_eq_true_eq] at hok
      cases e
      have hq := am_new_ok (k := ci) (l := am_fn ci.toNat) (z := am_z ci.toNat) hh (by omega) (Or.inl ⟨by omega, by omega, fun j hj => am_z_ok h hh.1 _ _ (by omega) hj⟩)
      refine ⟨hq.1, hq.2, hl.mono hq.2.1, am_lok_c (am_vok_r (Or.inl ⟨by have := hh.1; omega, ?_⟩)) (hs.mono hq.2.1), rfl⟩
      show am_n h < am_n h + 1
      omega
    · cases e
  all_goals (simp only [am_st] at e; cases e)
end
