set_option maxRecDepth 100000
/-! the model's expressions: what eval() answers -/
def mk_kind (act v : Int) : Int := if act = 0 then 1 else if act = 1 then 2 else if act = 2 then (if v = 1 then 3 else 4) else if act = 3 then 5 else if act = 4 then 7 else if act = 5 then 6 else if act = 6 then 8 else if act ≤ 12 then 9 else if act ≤ 14 then 10 else if act ≤ 16 then 11 else act - 5
def mk_how (act : Int) : Int := if act = 7 then 61 else if act = 8 then 400 else if act = 9 then 60 else if act = 10 then 401 else if act = 11 then 62 else if act = 12 then 402 else if act = 14 ∨ act = 16 then 1 else 0
def ex_M (s : ms_S) (T : xt) (N : Nat) : Prop := N ≤ 120 ∧ ∀ e : Nat, e < N → s 23 e = mk_kind (x_act T e) (x_v T e) ∧ (x_act T e = 0 → s 28 e = x_v T e) ∧ (7 ≤ x_act T e → x_act T e ≤ 16 → s 27 e = mk_how (x_act T e)) ∧ (x_act T e ≠ 3 → s 24 e = x_a T e ∧ s 25 e = x_b T e) ∧ s 26 e = x_c T e ∧ s 32 e = x_n T e ∧ (x_act T e = 3 → s 30 e = x_a T e ∧ s 27 e = x_b T e) ∧ -1 ≤ x_n T e ∧ -1 ≤ x_b T e
def m_n (s s' : ms_S) : Prop := ∀ (q : Nat) (j : Int), q ≠ 92 → s' q j = s q j
section
variable {s s' s2 : ms_S} {T : xt} {sl ct : Nat → Int} {τ : List Int} {N d0 d : Nat} {Q : Int → ms_S → Prop} {env : Nat → Option Int}
theorem m_n.rf (s : ms_S) : m_n s s := fun _ _ _ => rfl
theorem m_n.tr (h1 : m_n s s') (h2 : m_n s' s2) : m_n s s2 := fun q j h => (h2 q j h).trans (h1 q j h)
theorem m_n.u (s : ms_S) (v : Int) : m_n s (ms_u s 92 0 v) := fun q j h => ms_u_f 0 v j h
theorem ex_M.n (h : ex_M s T N) (u : m_n s s') : ex_M s' T N := by
  refine ⟨h.1, fun e he => ?_⟩
  rw [u _ _ (by decide), u _ _ (by decide), u _ _ (by decide), u _ _ (by decide), u _ _ (by decide), u _ _ (by decide), u _ _ (by decide), u _ _ (by decide)]
  exact h.2 e he
/-- what leaves answer -/
def m_lf (d0 : Nat) (s : ms_S) (T : xt) (sl ct : Nat → Int) (τ : List Int) (N : Nat) (env : Nat → Option Int) : Prop :=
  ∀ (e : Nat) (t : Int), e < N → (x_act T e = 3 ∨ (25 ≤ x_act T e ∧ x_act T e ≤ 29)) → t = ct e → 0 ≤ sl e → τ[(sl e).toNat]? = some t → ∀ (s1 : ms_S) (D : Nat) (Q : Int → ms_S → Prop), m_n s s1 → d0 ≤ D → (∀ s', m_n s1 s' → s' 92 0 = x_nl (env e) → Q (rw_ov (env e)) s') → md_eval D e s1 Q
theorem m_lf.n (h : m_lf d0 s T sl ct τ N env) (u : m_n s s') : m_lf d0 s' T sl ct τ N env := fun e t he ha ht h1 h2 s1 D Q hs hD kk => h e t he ha ht h1 h2 s1 D Q (u.tr hs) hD kk
theorem k_some {v : Int} (kk : ∀ s', m_n s s' → s' 92 0 = 0 → Q v s') : md_some d v s Q := by
  refine w164_e (fun s1 e1 => kk s1 ?_ ?_)
  · subst e1; exact m_n.u s 0
  · subst e1; exact ms_u_eq _ _ _ _
theorem k_nothing0 (kk : ∀ s', m_n s s' → s' 92 0 = 1 → Q 0 s') : md_nothing0 d s Q := by
  refine w165_e (fun s1 e1 => kk s1 ?_ ?_)
  · subst e1; exact m_n.u s 1
  · subst e1; exact ms_u_eq _ _ _ _
def m_tr (v : Option Int) : Int := match v with
  | none => 2
  | some x => if x = 0 then 0 else 1
theorem k_ofTruth {t : Int} (kk : ∀ s', m_n s s' → s' 92 0 = (if t = 2 then 1 else 0) → Q (if t = 2 then 0 else t) s') : md_ofTruth (d + 1) t s Q := by
  refine w168_e ⟨fun w => k_some (fun s1 u n => w168_2 ?_), fun w => k_nothing0 (fun s1 u n => w168_2 ?_)⟩
  · have := kk s1 u (by rw [if_neg w]; exact n)
    rw [if_neg w] at this; exact this
  · have := kk s1 u (by rw [if_pos (by omega)]; exact n)
    rw [if_pos (by omega)] at this; exact this
theorem k_mboth {and a b : Int} (kk : Q (if a = (if and = 0 then 1 else 0) ∨ b = (if and = 0 then 1 else 0) then (if and = 0 then 1 else 0) else if a = 2 ∨ b = 2 then 2 else 1 - (if and = 0 then 1 else 0)) s) : md_both d and a b s Q := by
  have b2 : ∀ z : Int, (z = 0 ∨ z = 1) → Q (if a = z ∨ b = z then z else if a = 2 ∨ b = 2 then 2 else 1 - z) s → mw d 167 (am_blk 167 2) [and, a, b, 0] [z] s Q := by
    intro z hz kk
    refine w167_2 ⟨fun w => w167_3 (w167_7 ?_), fun w => ⟨fun w2 => ⟨fun w3 => w167_5 (w167_7 ?_), fun w3 => ⟨fun w4 => w167_7 ?_, fun w4 => w167_5 (w167_7 ?_)⟩⟩, fun w2 => w167_3 (w167_7 ?_)⟩⟩
    · rwa [if_pos (Or.inl w)] at kk
    · rwa [if_neg (by omega), if_pos (Or.inl w3)] at kk
    · rw [if_neg (by omega), if_neg (by omega)] at kk
      rw [am_w_in (by omega) (by omega)]; exact kk
    · rwa [if_neg (by omega), if_pos (by omega)] at kk
    · rwa [if_pos (by omega)] at kk
  refine w167_e ⟨fun w => b2 1 (Or.inr rfl) ?_, fun w => b2 0 (Or.inl rfl) ?_⟩
  · rwa [if_pos w] at kk
  · rwa [if_neg w] at kk
theorem x_bo_tr {dc : Int} (hd : dc = 0 ∨ dc = 1) {a b : Option Int} (ha : a = none ∨ a = some 0 ∨ a = some 1) (hb : b = none ∨ b = some 0 ∨ b = some 1) :
    (let t := (if m_tr a = dc ∨ m_tr b = dc then dc else if m_tr a = 2 ∨ m_tr b = 2 then 2 else 1 - dc)
    (if t = 2 then (1 : Int) else 0) = x_nl (x_bo dc a b) ∧ (if t = 2 then 0 else t) = rw_ov (x_bo dc a b)) := by
  rcases hd with rfl | rfl <;> rcases ha with rfl | rfl | rfl <;> rcases hb with rfl | rfl | rfl <;> decide
/-- the truth of a value that is one -/
theorem k_mtruth {e : Nat} {v : Option Int} (he : ∀ Q' : Int → ms_S → Prop, (∀ s', m_n s s' → s' 92 0 = x_nl v → Q' (rw_ov v) s') → md_eval d e s Q') (kk : ∀ s', m_n s s' → s' 92 0 = x_nl v → Q (m_tr v) s') : md_truth (d + 1) e s Q := by
  refine w162_e (he _ (fun s1 u n => ?_))
  rw [n]
  cases v with
  | none => exact ⟨fun w => absurd w (by decide), fun _ => w162_3 (kk s1 u n)⟩
  | some x =>
    have lc := lc_iff x 0
    refine ⟨fun _ => ⟨fun w => w162_3 ?_, fun w => w162_3 ?_⟩, fun w => absurd rfl w⟩
    · have := kk s1 u n
      unfold m_tr at this
      dsimp only at this
      rw [if_pos (lc.1.mp w)] at this
      exact this
    · have := kk s1 u n
      unfold m_tr at this
      dsimp only at this
      rw [if_neg (fun p => w (lc.1.mpr p))] at this
      exact this
theorem k_some2 {e : Nat} {a b : Int} (hM : ex_M s T N) (he : e < N) (hact : (7 ≤ x_act T e ∧ x_act T e ≤ 12) ∨ (17 ≤ x_act T e ∧ x_act T e ≤ 21) ∨ x_act T e = 24) (ha : -9223372036854775808 ≤ a ∧ a ≤ 9223372036854775807) (hb : -9223372036854775808 ≤ b ∧ b ≤ 9223372036854775807) (kk : ∀ s', m_n s s' → s' 92 0 = x_nl (x_op (x_act T e) a b) → Q (rw_ov (x_op (x_act T e) a b)) s') : md_some2 (d + 1) e (mk_kind (x_act T e) (x_v T e)) a b s Q := by
  have hN := hM.1
  obtain ⟨-, -, hh, -⟩ := hM.2 e he
  have lc := lc_iff a b
  have lb := lc_iff b 0
  have lm := lc_iff b (-1)
  have fs : ∀ v : Int, x_op (x_act T e) a b = some v → ∀ d, md_some d v s (fun v1 s1 => Q v1 s1) := by
    intro v hv d
    rw [hv] at kk
    exact k_some kk
  have fn : x_op (x_act T e) a b = none → ∀ d, md_nothing0 d s (fun v1 s1 => Q v1 s1) := by
    intro hv d
    rw [hv] at kk
    exact k_nothing0 kk
  have cmp : ∀ z : Int, x_op (x_act T e) a b = some z → (z = 0 ∨ z = 1) → ∀ x2 x7, mw (d + 1) 170 (am_blk 170 12) [159, (e : Int), x2, a, 0, b, 0, x7, 0] [z] s Q := by
    intro z hz h01 x2 x7
    refine w170_12 ⟨fun w => w170_14 (fs 0 (by rw [hz, w]) d), fun w => w170_14 (fs 1 (by rw [hz]; congr 1; omega) d)⟩
  have kd : (7 ≤ x_act T e ∧ x_act T e ≤ 12 ∧ mk_kind (x_act T e) (x_v T e) = 9) ∨ ((17 ≤ x_act T e ∧ x_act T e ≤ 21 ∨ x_act T e = 24) ∧ mk_kind (x_act T e) (x_v T e) = x_act T e - 5) := by
    unfold mk_kind
    rcases hact with h | h
    · left
      rw [if_neg (by omega), if_neg (by omega), if_neg (by omega), if_neg (by omega), if_neg (by omega), if_neg (by omega), if_neg (by omega), if_pos (by omega)]
      omega
    · right
      rw [if_neg (by omega), if_neg (by omega), if_neg (by omega), if_neg (by omega), if_neg (by omega), if_neg (by omega), if_neg (by omega), if_neg (by omega), if_neg (by omega), if_neg (by omega)]
      exact ⟨h, rfl⟩
  generalize hA : x_act T e = A at *
  rcases kd with ⟨h1, h2, hk⟩ | ⟨h1, hk⟩
  · rw [hk]
    have hw := hh h1 (by omega)
    have : A = 7 ∨ A = 8 ∨ A = 9 ∨ A = 10 ∨ A = 11 ∨ A = 12 := by omega
    refine w170_e ⟨fun w => absurd rfl w, fun _ => ⟨by omega, by omega, ?_⟩⟩
    rw [hw]
    rcases this with rfl | rfl | rfl | rfl | rfl | rfl
    · refine ⟨fun w => absurd (by decide) w, fun _ => ⟨fun q => cmp 0 ?_ (Or.inl rfl) _ _, fun q => cmp 1 ?_ (Or.inr rfl) _ _⟩⟩
      · simp [x_op]; omega
      · simp [x_op]; omega
    · refine ⟨fun _ => ⟨fun w => absurd (by decide) w, fun _ => ⟨fun q => cmp 0 ?_ (Or.inl rfl) _ _, fun q => cmp 1 ?_ (Or.inr rfl) _ _⟩⟩, fun w => absurd (by decide) w⟩
      · simp [x_op]; omega
      · simp [x_op]; omega
    · refine ⟨fun _ => ⟨fun _ => ⟨fun w => absurd (by decide) w, fun _ => ⟨fun q => cmp 0 ?_ (Or.inl rfl) _ _, fun q => cmp 1 ?_ (Or.inr rfl) _ _⟩⟩, fun w => absurd (by decide) w⟩, fun w => absurd (by decide) w⟩
      · simp [x_op]; omega
      · simp [x_op]; omega
    · refine ⟨fun _ => ⟨fun _ => ⟨fun _ => ⟨fun w => absurd (by decide) w, fun _ => ⟨fun q => cmp 0 ?_ (Or.inl rfl) _ _, fun q => cmp 1 ?_ (Or.inr rfl) _ _⟩⟩, fun w => absurd (by decide) w⟩, fun w => absurd (by decide) w⟩, fun w => absurd (by decide) w⟩
      · simp [x_op]; omega
      · simp [x_op]; omega
    · refine ⟨fun _ => ⟨fun _ => ⟨fun _ => ⟨fun _ => ⟨fun w => absurd (by decide) w, fun _ => ⟨fun q => cmp 0 ?_ (Or.inl rfl) _ _, fun q => cmp 1 ?_ (Or.inr rfl) _ _⟩⟩, fun w => absurd (by decide) w⟩, fun w => absurd (by decide) w⟩, fun w => absurd (by decide) w⟩, fun w => absurd (by decide) w⟩
      · simp [x_op]; omega
      · simp [x_op]; omega
    · refine ⟨fun _ => ⟨fun _ => ⟨fun _ => ⟨fun _ => ⟨fun _ => ⟨fun q => cmp 0 ?_ (Or.inl rfl) _ _, fun q => cmp 1 ?_ (Or.inr rfl) _ _⟩, fun w => absurd (by decide) w⟩, fun w => absurd (by decide) w⟩, fun w => absurd (by decide) w⟩, fun w => absurd (by decide) w⟩, fun w => absurd (by decide) w⟩
      · simp [x_op]; omega
      · simp [x_op]; omega
  · rw [hk]
    have : A = 17 ∨ A = 18 ∨ A = 19 ∨ A = 20 ∨ A = 21 ∨ A = 24 := by omega
    refine w170_e ⟨fun _ => ?_, fun w => absurd (by omega) w⟩
    rcases this with rfl | rfl | rfl | rfl | rfl | rfl
    · exact ⟨fun w => absurd (by decide) w, fun _ => fs _ (by simp [x_op]) d⟩
    · exact ⟨fun _ => ⟨fun w => absurd (by decide) w, fun _ => fs _ (by simp [x_op]) d⟩, fun w => absurd (by decide) w⟩
    · exact ⟨fun _ => ⟨fun _ => ⟨fun w => absurd (by decide) w, fun _ => fs _ (by simp [x_op]) d⟩, fun w => absurd (by decide) w⟩, fun w => absurd (by decide) w⟩
    · refine ⟨fun _ => ⟨fun _ => ⟨fun _ => ⟨fun _ => ⟨fun q => ⟨fun w => absurd (by decide) w, fun _ => ⟨fun q2 => ⟨?_, w170_27 (fs _ ?_ d)⟩, fun q2 => w170_27 (fs _ ?_ d)⟩⟩, fun q => fn ?_ d⟩, fun w => absurd (by decide) w⟩, fun w => absurd (by decide) w⟩, fun w => absurd (by decide) w⟩, fun w => absurd (by decide) w⟩
      · omega
      · have : b ≠ 0 := by omega
        simp [x_op, this]
      · have e1 : b = -1 := by omega
        subst e1
        simp [x_op, am_ldv_m ha.1 ha.2]
      · have : b = 0 := by omega
        simp [x_op, this]
    · refine ⟨fun _ => ⟨fun _ => ⟨fun _ => ⟨fun _ => ⟨fun q => ⟨fun _ => ⟨fun q2 => ⟨?_, w170_27 (fs _ ?_ d)⟩, fun q2 => w170_27 (fs _ ?_ d)⟩, fun w => absurd (by decide) w⟩, fun q => fn ?_ d⟩, fun w => absurd (by decide) w⟩, fun w => absurd (by decide) w⟩, fun w => absurd (by decide) w⟩, fun w => absurd (by decide) w⟩
      · omega
      · have : b ≠ 0 := by omega
        simp [x_op, this]
      · have e1 : b = -1 := by omega
        subst e1
        simp [x_op, am_lrm_m]
      · have : b = 0 := by omega
        simp [x_op, this]
    · refine ⟨fun _ => ⟨fun _ => ⟨fun _ => ⟨fun w => absurd (by decide) w, fun _ => ⟨fun q => ?_, fun q => fn ?_ d⟩⟩, fun w => absurd (by decide) w⟩, fun w => absurd (by decide) w⟩, fun w => absurd (by decide) w⟩
      · have hb0 : 0 < b := by omega
        have hr := am_lrm_t ha.1 ha.2 hb0 hb.2
        have lr := lc_iff (am_lrm a b) 0
        have hm : 0 ≤ a % b ∧ a % b < b := ⟨Int.emod_nonneg _ (by omega), Int.emod_lt_of_pos _ hb0⟩
        have ht := Int.tmod_eq_emod (a := a) (b := b)
        have hop : x_op 24 a b = some (am_x (a - a % b)) := by
          have : ¬ b ≤ 0 := by omega
          simp [x_op, this]
        refine ⟨by omega, fun q2 => w170_21 ?_, fun q2 => w170_21 ?_⟩
        · have e1 : am_lrm a b = a % b := by
            have q3 := lr.2.2.2.1.mp q2
            rw [hr, ht] at q3 ⊢
            by_cases p : 0 ≤ a ∨ b ∣ a
            · rw [if_pos p]; omega
            · rw [if_neg p] at q3; omega
          rw [e1]
          exact fs _ hop d
        · have e1 : am_lrm a b = a % b - b := by
            have q3 : ¬ 0 ≤ am_lrm a b := fun q => q2 (lr.2.2.2.1.mpr q)
            rw [hr, ht] at q3 ⊢
            by_cases p : 0 ≤ a ∨ b ∣ a
            · rw [if_pos p] at q3; omega
            · rw [if_neg p]; omega
          have e2 : am_x (am_lrm a b + b) = a % b := by
            rw [e1, am_x_in (by omega) (by omega)]; omega
          rw [e2]
          exact fs _ hop d
      · have : b ≤ 0 := by omega
        simp [x_op, this]
end
