set_option maxRecDepth 100000
/-! the component's expressions: what of() answers -/
/-- its arrays -/
def ex_A (c : cs_S) (ad : Int) : Prop :=
  c_r c ad = 1005
  ∧ (c_r c (c_v c 201 ad 0) = 701 ∧ c_l c (c_v c 201 ad 0) = 121)
  ∧ (c_r c (c_v c 202 ad 0) = 702 ∧ c_l c (c_v c 202 ad 0) = 121)
  ∧ (c_r c (c_v c 203 ad 0) = 703 ∧ c_l c (c_v c 203 ad 0) = 121)
  ∧ (c_r c (c_v c 204 ad 0) = 704 ∧ c_l c (c_v c 204 ad 0) = 121)
  ∧ (c_r c (c_v c 205 ad 0) = 705 ∧ c_l c (c_v c 205 ad 0) = 121)
  ∧ (c_r c (c_v c 206 ad 0) = 706 ∧ c_l c (c_v c 206 ad 0) = 121)
  ∧ (c_r c (c_v c 210 ad 0) = 710 ∧ c_l c (c_v c 210 ad 0) = 121)
/-- its rows of numbers, up to the N-th -/
def ex_T (c : cs_S) (ad : Int) (T : xt) (sl : Nat → Int) (N : Nat) : Prop :=
  N ≤ 120 ∧ ∀ e : Nat, e < N → c_v c 701 (c_v c 201 ad 0) e = x_act T e ∧ c_v c 702 (c_v c 202 ad 0) e = x_a T e ∧ c_v c 703 (c_v c 203 ad 0) e = x_b T e ∧ c_v c 704 (c_v c 204 ad 0) e = x_c T e ∧ c_v c 705 (c_v c 205 ad 0) e = x_n T e ∧ c_v c 706 (c_v c 206 ad 0) e = x_v T e ∧ c_v c 710 (c_v c 210 ad 0) e = sl e
def ex_K (c : cs_S) (ad : Int) (T : xt) (sl : Nat → Int) (N : Nat) : Prop := ex_A c ad ∧ ex_T c ad T sl N
/-- roles of what is read of them -/
def ex_q (q : Nat) : Prop := q = 201 ∨ q = 202 ∨ q = 203 ∨ q = 204 ∨ q = 205 ∨ q = 206 ∨ q = 210 ∨ q = 701 ∨ q = 702 ∨ q = 703 ∨ q = 704 ∨ q = 705 ∨ q = 706 ∨ q = 710
def xw (ad : Int) (q : Nat) (a : Int) : Prop := q = 212 ∧ a = ad
section
variable {W : Nat → Int → Prop} {c c' : cs_S} {ad r : Int} {T : xt} {sl ct : Nat → Int} {τ : List Int} {l : rwt} {N : Nat} {Q : Int → cs_S → Prop} {d : Nat}
theorem ex_K.up (h : ex_K c ad T sl N) (u : c_up W c c') (hw : ∀ q a, ex_q q → ¬ W q a) : ex_K c' ad T sl N := by
  obtain ⟨⟨h0, ⟨a1, b1⟩, ⟨a2, b2⟩, ⟨a3, b3⟩, ⟨a4, b4⟩, ⟨a5, b5⟩, ⟨a6, b6⟩, ⟨a7, b7⟩⟩, hN, hT⟩ := h
  have f0 : c_r c ad ≠ 0 := by rw [h0]; decide
  have g : ∀ q, ex_q q → c_v c' q ad 0 = c_v c q ad 0 := fun q hq => u.v f0 (hw q ad hq) 0
  have e1 := g 201 (by unfold ex_q; omega)
  have e2 := g 202 (by unfold ex_q; omega)
  have e3 := g 203 (by unfold ex_q; omega)
  have e4 := g 204 (by unfold ex_q; omega)
  have e5 := g 205 (by unfold ex_q; omega)
  have e6 := g 206 (by unfold ex_q; omega)
  have e7 := g 210 (by unfold ex_q; omega)
  have v : ∀ {q : Nat} {a : Int}, ex_q q → c_r c a ≠ 0 → ∀ j, c_v c' q a j = c_v c q a j := fun hq ha j => u.v ha (hw _ _ hq) j
  have n1 : c_r c (c_v c 201 ad 0) ≠ 0 := by rw [a1]; decide
  have n2 : c_r c (c_v c 202 ad 0) ≠ 0 := by rw [a2]; decide
  have n3 : c_r c (c_v c 203 ad 0) ≠ 0 := by rw [a3]; decide
  have n4 : c_r c (c_v c 204 ad 0) ≠ 0 := by rw [a4]; decide
  have n5 : c_r c (c_v c 205 ad 0) ≠ 0 := by rw [a5]; decide
  have n6 : c_r c (c_v c 206 ad 0) ≠ 0 := by rw [a6]; decide
  have n7 : c_r c (c_v c 210 ad 0) ≠ 0 := by rw [a7]; decide
  refine ⟨⟨u.r h0 (by decide), ?_, ?_, ?_, ?_, ?_, ?_, ?_⟩, hN, fun e he => ?_⟩
  · rw [e1, u.l n1]; exact ⟨u.r a1 (by decide), b1⟩
  · rw [e2, u.l n2]; exact ⟨u.r a2 (by decide), b2⟩
  · rw [e3, u.l n3]; exact ⟨u.r a3 (by decide), b3⟩
  · rw [e4, u.l n4]; exact ⟨u.r a4 (by decide), b4⟩
  · rw [e5, u.l n5]; exact ⟨u.r a5 (by decide), b5⟩
  · rw [e6, u.l n6]; exact ⟨u.r a6 (by decide), b6⟩
  · rw [e7, u.l n7]; exact ⟨u.r a7 (by decide), b7⟩
  · rw [e1, e2, e3, e4, e5, e6, e7, v (by unfold ex_q; omega) n1, v (by unfold ex_q; omega) n2, v (by unfold ex_q; omega) n3, v (by unfold ex_q; omega) n4, v (by unfold ex_q; omega) n5, v (by unfold ex_q; omega) n6, v (by unfold ex_q; omega) n7]
    exact hT e he
theorem ex_K.sm (h : ex_K c ad T sl N) (u : c_sm (xw ad) c c') : ex_K c' ad T sl N := h.up u.up (fun q a hq hw => by unfold xw at hw; unfold ex_q at hq; omega)
theorem rw_is.x_w (h : rw_is c r l) (u : c_sm (xw ad) c c') : rw_is c' r l := h.sm u (by unfold xw; omega) (by unfold xw; omega) (by unfold xw; omega) (by unfold xw; omega)
theorem k_floorMod {a b : Int} (h0 : -9223372036854775808 ≤ a) (h1 : a ≤ 9223372036854775807) (h2 : 0 < b) (h3 : b ≤ 9223372036854775807) (kk : Q (a % b) c) : kmath_floorMod d a b c Q := by
  have hx := am_lxor_neg h0 h1 h2 h3
  have hr := am_lrm_t h0 h1 h2 h3
  have c0 : ∀ z : Int, (0 ≤ am_lcmp z 0 ↔ 0 ≤ z) ∧ (am_lcmp z 0 = 0 ↔ z = 0) := by
    intro z; unfold am_lcmp; by_cases p : z < 0
    · rw [if_pos p]; omega
    · rw [if_neg p]; by_cases p2 : z = 0
      · rw [if_pos p2]; omega
      · rw [if_neg p2]; omega
  have hm : 0 ≤ a % b ∧ a % b < b := ⟨Int.emod_nonneg _ (by omega), Int.emod_lt_of_pos _ h2⟩
  have ht := Int.tmod_eq_emod (a := a) (b := b)
  refine u303_e ⟨by omega, fun w => u303_1 ?_, fun w => ⟨fun w2 => u303_1 ?_, fun w2 => ?_⟩⟩
  · have ha : 0 ≤ a := by have := (c0 (am_lxor a b)).1.mp w; omega
    rw [hr, Int.tmod_eq_emod_of_nonneg ha]; exact kk
  · have ha : ¬ 0 ≤ a := by intro q; apply w; rw [(c0 (am_lxor a b)).1]; omega
    have hz := (c0 (am_lrm a b)).2.mp w2
    rw [hz]
    rw [hr] at hz
    have : a % b = 0 := Int.emod_eq_zero_of_dvd (Int.dvd_of_tmod_eq_zero hz)
    rwa [this] at kk
  · have ha : ¬ 0 ≤ a := by intro q; apply w; rw [(c0 (am_lxor a b)).1]; omega
    have hz : am_lrm a b ≠ 0 := fun q => w2 ((c0 (am_lrm a b)).2.mpr q)
    rw [hr] at hz
    have hnd : ¬ b ∣ a := fun q => hz (Int.tmod_eq_zero_of_dvd q)
    have e1 : Int.tmod a b = a % b - b := by
      rw [ht, if_neg (by omega)]; omega
    rw [hr, e1]
    have e2 : a % b - b + b = a % b := by omega
    rw [e2, am_x_in (by omega) (by omega)]
    exact kk
theorem lc_iff (x y : Int) : (am_lcmp x y = 0 ↔ x = y) ∧ (am_lcmp x y < 0 ↔ x < y) ∧ (0 < am_lcmp x y ↔ y < x) ∧ (0 ≤ am_lcmp x y ↔ y ≤ x) ∧ (am_lcmp x y ≤ 0 ↔ x ≤ y) := by
  unfold am_lcmp
  by_cases p : x < y
  · rw [if_pos p]; omega
  · rw [if_neg p]
    by_cases p2 : x = y
    · rw [if_pos p2]; omega
    · rw [if_neg p2]; omega
theorem x_nl_or (a b : Option Int) : am_or (x_nl a) (x_nl b) = if a = none ∨ b = none then 1 else 0 := by
  unfold x_nl
  by_cases p : a = none <;> by_cases q : b = none <;> simp only [p, q] <;> decide
theorem b_or {p q : Prop} [Decidable p] [Decidable q] : am_or (if p then 1 else 0) (if q then 1 else 0) = if p ∨ q then 1 else 0 := by
  by_cases hp : p <;> by_cases hq : q <;> simp only [hp, hq] <;> decide
theorem x_lt.nat {e : Nat} {a : Int} (h : x_lt T e a) : ∃ k : Nat, a = (k : Int) ∧ k < e := ⟨a.toNat, by unfold x_lt at h; omega, by unfold x_lt at h; omega⟩
theorem k_of1 (hT64 : x_T64 T) (hg : rg τ l) : ∀ (f e : Nat) (t : Int) (D : Nat) (c : cs_S) (Q : Int → cs_S → Prop), x_wt T sl ct τ f e t → e < N → 2 * f + 1 ≤ D → ex_K c ad T sl N → rw_is c r l → (∀ c', c_sm (xw ad) c c' → c_v c' 212 ad 0 = x_nl (ev T (x_env sl l) f e) → Q (rw_ov (ev T (x_env sl l) f e)) c') → kexp_of D ad e r c Q := by
  intro f
  induction f with
  | zero => intro e t D c Q hw; exact hw.elim
  | succ f ih =>
    intro e t D c Q hw he hD hK hr kk
    obtain ⟨D', rfl⟩ : ∃ D', D = D' + 2 := ⟨D - 2, by omega⟩
    have hD' : 2 * f + 1 ≤ D' := by omega
    have hN := hK.2.1
    refine u122_e ⟨hK.1.1, fun c1 e1 => ?_⟩
    have s1 : c_sm (xw ad) c c1 := by subst e1; exact c_sm.u c ⟨rfl, rfl⟩ _ _
    have n1 : c_v c1 212 ad 0 = 0 := by subst e1; exact c_u_eq _ _ _ _ _
    have K1 := hK.sm s1
    have R1 := hr.x_w s1
    obtain ⟨⟨h0, ⟨a1, b1⟩, ⟨a2, b2⟩, ⟨a3, b3⟩, ⟨a4, b4⟩, ⟨a5, b5⟩, ⟨a6, b6⟩, ⟨a7, b7⟩⟩, -, hTT⟩ := id K1
    obtain ⟨v1, v2, v3, v4, v5, v6, v7⟩ := hTT e he
    have fin : ∀ (v : Option Int) (c' : cs_S), c_sm (xw ad) c c' → ev T (x_env sl l) (f + 1) e = v → c_v c' 212 ad 0 = x_nl v → Q (rw_ov v) c' := by
      intro v c' s hv hn
      subst hv
      exact kk c' s hn
    rw [v1]
    refine ⟨h0, a1, by omega, by omega, ?_⟩
    -- two sides
    have two : ((7 ≤ x_act T e ∧ x_act T e ≤ 12) ∨ (17 ≤ x_act T e ∧ x_act T e ≤ 21) ∨ x_act T e = 24) → x_lt T e (x_a T e) → x_lt T e (x_b T e) → (∃ ta, x_wt T sl ct τ f (x_a T e).toNat ta) → (∃ tb, x_wt T sl ct τ f (x_b T e).toNat tb) → kexp_twoSided (D' + 1) ad e r c1 Q := by
      intro hact ha hb hta htb
      have hev := ev_two (env := x_env sl l) (f := f) hact
      obtain ⟨a, ea, hae⟩ := ha.nat
      obtain ⟨b, eb, hbe⟩ := hb.nat
      rw [ea, Int.toNat_natCast] at hta hev
      rw [eb, Int.toNat_natCast] at htb hev
      obtain ⟨ta, hta⟩ := hta
      obtain ⟨tb, htb⟩ := htb
      refine u125_e ⟨h0, a2, by omega, by omega, h0, ?_⟩
      rw [v2, ea]
      refine ih a ta D' c1 _ hta (by omega) hD' K1 R1 (fun c2 s2 n2 => ?_)
      have K2 := K1.sm s2
      have R2 := R1.x_w s2
      obtain ⟨-, -, w3, -⟩ := K2.2.2 e he
      refine ⟨K2.1.1, K2.1.1, K2.1.2.2.2.1.1, by omega, by rw [K2.1.2.2.2.1.2]; omega, K2.1.1, ?_⟩
      rw [w3, eb]
      refine ih b tb D' c2 _ htb (by omega) hD' K2 R2 (fun c3 s3 n3 => ⟨(K2.sm s3).1.1, (K2.sm s3).1.1, fun c4 e4 => ?_⟩)
      rw [n2, n3, x_nl_or] at e4
      have s4 : c_sm (xw ad) c3 c4 := by subst e4; exact c_sm.u c3 ⟨rfl, rfl⟩ _ _
      have n4 : c_v c4 212 ad 0 = if ev T (x_env sl l) f b = none ∨ ev T (x_env sl l) f a = none then 1 else 0 := by subst e4; exact c_u_eq _ _ _ _ _
      have K4 := (K2.sm s3).sm s4
      have sA : c_sm (xw ad) c c4 := ((s1.tr s2).tr s3).tr s4
      have r64a := ev_r64 hT64 (hg.env (sl := sl)) f a
      have r64b := ev_r64 hT64 (hg.env (sl := sl)) f b
      obtain ⟨w1, -⟩ := K4.2.2 e he
      rw [n4, w1]
      cases hx : ev T (x_env sl l) f a with
      | none =>
        rw [hx] at hev n4
        refine ⟨K4.1.1, fun w => absurd w (by simp), fun _ => ?_⟩
        exact fin none c4 sA hev (by rw [n4]; simp [x_nl])
      | some x =>
        cases hy : ev T (x_env sl l) f b with
        | none =>
          rw [hx, hy] at hev
          rw [hy] at n4
          refine ⟨K4.1.1, fun w => absurd w (by simp), fun _ => ?_⟩
          exact fin none c4 sA hev (by rw [n4]; simp [x_nl])
        | some y =>
          rw [hx, hy] at hev
          rw [hx, hy] at n4
          have n4 : c_v c4 212 ad 0 = 0 := by rw [n4]; simp
          have r64a := r64a x hx
          have r64b := r64b y hy
          have lc := lc_iff x y
          have lb := lc_iff y 0
          have f1 : ∀ v : Int, x_op (x_act T e) x y = some v → Q v c4 := fun v hv => fin (some v) c4 sA (hev.trans hv) (by rw [n4]; rfl)
          have rx : rw_ov (some x) = x := rfl
          have ry : rw_ov (some y) = y := rfl
          rw [rx, ry]
          have rest : x_act T e = 20 ∨ x_act T e = 21 → ∀ z5 : Int, cw (D' + 1) 125 (am_blk 125 28) [ad, (e : Int), r, x, 0, z5, y, 0] [] c4 Q := by
            intro h2 z5
            have e30 : ∀ z : Int, z = (if y = 0 then 1 else 0) → cw (D' + 1) 125 (am_blk 125 30) [ad, (e : Int), r, x, 0, z5, y, 0] [z, ad] c4 Q := by
              intro z hz
              refine u125_30 ⟨K4.1.1, fun c5 e5 => ?_⟩
              have s5 : c_sm (xw ad) c4 c5 := by subst e5; exact c_sm.u c4 ⟨rfl, rfl⟩ _ _
              have n5 : c_v c5 212 ad 0 = z := by subst e5; exact c_u_eq _ _ _ _ _
              have K5 := K4.sm s5
              obtain ⟨w1, -⟩ := K5.2.2 e he
              rw [n5, w1]
              refine ⟨K5.1.1, fun q => ⟨K5.1.1, K5.1.2.1.1, by omega, by rw [K5.1.2.1.2]; omega, fun q2 => ?_, fun q2 => ?_⟩, fun q => u125_33 ?_⟩
              · have hy0 : y ≠ 0 := by intro q3; rw [if_pos q3] at hz; omega
                refine ⟨hy0, u125_33 (fin (some (am_lrm x y)) c5 (sA.tr s5) (hev.trans ?_) (by rw [n5, q]; rfl))⟩
                have : x_act T e = 21 := by omega
                rw [this]; simp [x_op, hy0]
              · have hy0 : y ≠ 0 := by intro q3; rw [if_pos q3] at hz; omega
                refine ⟨hy0, u125_33 (fin (some (am_ldv x y)) c5 (sA.tr s5) (hev.trans ?_) (by rw [n5, q]; rfl))⟩
                have : x_act T e = 20 := by omega
                rw [this]; simp [x_op, hy0]
              · have hy0 : y = 0 := by
                  by_cases q3 : y = 0
                  · exact q3
                  · rw [if_neg q3] at hz; omega
                refine fin none c5 (sA.tr s5) (hev.trans ?_) (by rw [n5, hz, if_pos hy0]; rfl)
                rcases h2 with h2 | h2 <;> (rw [h2]; simp [x_op, hy0])
            refine u125_28 ⟨fun q => e30 0 ?_, fun q => e30 1 ?_⟩
            · rw [if_neg (fun q2 => q (lb.1.mpr q2))]
            · rw [if_pos (lb.1.mp (by omega))]
          refine ⟨K4.1.1, fun _ => ⟨K4.1.1, K4.1.2.1.1, by omega, by rw [K4.1.2.1.2]; omega, ?_⟩, fun w => absurd (by simp) w⟩
          have span : x_act T e = 24 → ∀ z5 z : Int, z = (if y ≤ 0 then 1 else 0) → cw (D' + 1) 125 (am_blk 125 25) [ad, (e : Int), r, x, 0, z5, y, 0] [z, ad] c4 Q := by
            intro h2 z5 z hz
            refine u125_25 ⟨K4.1.1, fun c5 e5 => ?_⟩
            have s5 : c_sm (xw ad) c4 c5 := by subst e5; exact c_sm.u c4 ⟨rfl, rfl⟩ _ _
            have n5 : c_v c5 212 ad 0 = z := by subst e5; exact c_u_eq _ _ _ _ _
            have K5 := K4.sm s5
            rw [n5]
            refine ⟨K5.1.1, fun q => ?_, fun q => u125_27 ?_⟩
            · have hy0 : 0 < y := by
                by_cases q3 : y ≤ 0
                · rw [if_pos q3] at hz; omega
                · omega
              refine k_floorMod r64a.1 r64a.2 hy0 r64b.2 (u125_27 (fin (some (am_x (x - x % y))) c5 (sA.tr s5) (hev.trans ?_) (by rw [n5, q]; rfl)))
              rw [h2]; simp [x_op]; omega
            · have hy0 : y ≤ 0 := by
                by_cases q3 : y ≤ 0
                · exact q3
                · rw [if_neg q3] at hz; omega
              refine fin none c5 (sA.tr s5) (hev.trans ?_) (by rw [n5, hz, if_pos hy0]; rfl)
              rw [h2]; simp [x_op, hy0]
          refine ⟨fun w => ?_, fun w => ⟨fun q => u125_4 (f1 0 ?_), fun q => u125_4 (f1 1 ?_)⟩, fun w => ⟨fun q => u125_7 (f1 0 ?_), fun q => u125_7 (f1 1 ?_)⟩, fun w => ⟨fun q => u125_10 (f1 0 ?_), fun q => u125_10 (f1 1 ?_)⟩, fun w => ⟨fun q => u125_13 (f1 0 ?_), fun q => u125_13 (f1 1 ?_)⟩, fun w => ⟨fun q => u125_16 (f1 0 ?_), fun q => u125_16 (f1 1 ?_)⟩, fun w => ⟨fun q => u125_19 (f1 0 ?_), fun q => u125_19 (f1 1 ?_)⟩, fun w => ?_, fun w => ?_, fun w => ?_, fun w => ?_, fun w => f1 _ ?_, fun w => f1 _ ?_, fun w => f1 _ ?_, fun w => rest (Or.inl w) _, fun w => rest (Or.inr w) _, fun w => ?_, fun w => ?_, fun w => ⟨fun q => span w _ 0 ?_, fun q => span w _ 1 ?_⟩, trivial⟩
          · exfalso; omega
          · rw [w]; simp [x_op]; omega
          · rw [w]; simp [x_op]; omega
          · rw [w]; simp [x_op]; omega
          · rw [w]; simp [x_op]; omega
          · rw [w]; simp [x_op]; omega
          · rw [w]; simp [x_op]; omega
          · rw [w]; simp [x_op]; omega
          · rw [w]; simp [x_op]; omega
          · rw [w]; simp [x_op]; omega
          · rw [w]; simp [x_op]; omega
          · rw [w]; simp [x_op]; omega
          · rw [w]; simp [x_op]; omega
          · exfalso; omega
          · exfalso; omega
          · exfalso; omega
          · exfalso; omega
          · rw [w]; simp [x_op]
          · rw [w]; simp [x_op]
          · rw [w]; simp [x_op]
          · exfalso; omega
          · exfalso; omega
          · rw [if_neg (by omega)]
          · rw [if_pos (by omega)]
    -- and, or
    have both : ∀ dc : Int, (dc = 0 ∨ dc = 1) → ev T (x_env sl l) (f + 1) e = x_bo dc (ev T (x_env sl l) f (x_a T e).toNat) (ev T (x_env sl l) f (x_b T e).toNat) → x_lt T e (x_a T e) → x_lt T e (x_b T e) → (∃ ta, x_wt T sl ct τ f (x_a T e).toNat ta) → (∃ tb, x_wt T sl ct τ f (x_b T e).toNat tb) → kexp_both (D' + 1) ad e r dc c1 Q := by
      intro dc hdc hev ha hb hta htb
      obtain ⟨a, ea, hae⟩ := ha.nat
      obtain ⟨b, eb, hbe⟩ := hb.nat
      rw [ea, Int.toNat_natCast] at hta hev
      rw [eb, Int.toNat_natCast] at htb hev
      obtain ⟨ta, hta⟩ := hta
      obtain ⟨tb, htb⟩ := htb
      refine u123_e ⟨h0, a2, by omega, by omega, h0, ?_⟩
      rw [v2, ea]
      refine ih a ta D' c1 _ hta (by omega) hD' K1 R1 (fun c2 s2 n2 => ?_)
      have K2 := K1.sm s2
      have R2 := R1.x_w s2
      obtain ⟨-, -, w3, -⟩ := K2.2.2 e he
      refine ⟨K2.1.1, K2.1.1, K2.1.2.2.2.1.1, by omega, by rw [K2.1.2.2.2.1.2]; omega, K2.1.1, ?_⟩
      rw [w3, eb]
      refine ih b tb D' c2 _ htb (by omega) hD' K2 R2 (fun c3 s3 n3 => ?_)
      have K3 := K2.sm s3
      have sA : c_sm (xw ad) c c3 := (s1.tr s2).tr s3
      rw [n2, n3]
      generalize hva : ev T (x_env sl l) f a = va at *
      generalize hvb : ev T (x_env sl l) f b = vb at *
      have lca := lc_iff (rw_ov va) dc
      have lcb := lc_iff (rw_ov vb) dc
      have an : va = some dc ↔ x_nl va = 0 ∧ rw_ov va = dc := by cases va <;> simp [x_nl, rw_ov]
      have bn : vb = some dc ↔ x_nl vb = 0 ∧ rw_ov vb = dc := by cases vb <;> simp [x_nl, rw_ov]
      have an0 : va = none ↔ x_nl va ≠ 0 := by cases va <;> simp [x_nl]
      have bn0 : vb = none ↔ x_nl vb ≠ 0 := by cases vb <;> simp [x_nl]
      have b7 : ∀ z zis : Int, (zis = if va = some dc ∨ vb = some dc then 1 else 0) → (z = if ¬ (va = some dc ∨ vb = some dc) ∧ (va = none ∨ vb = none) then 1 else 0) → cw (D' + 1) 123 (am_blk 123 7) [ad, (e : Int), r, dc, 0, rw_ov va, 0, x_nl va, rw_ov vb, 0, x_nl vb, zis] [z, ad] c3 Q := by
        intro z zis hzis hz
        refine u123_7 ⟨K3.1.1, fun c5 e5 => ?_⟩
        have s5 : c_sm (xw ad) c3 c5 := by subst e5; exact c_sm.u c3 ⟨rfl, rfl⟩ _ _
        have n5 : c_v c5 212 ad 0 = z := by subst e5; exact c_u_eq _ _ _ _ _
        rw [n5]
        refine ⟨(K3.sm s5).1.1, fun q => ⟨fun q2 => u123_10 ?_, fun q2 => u123_10 ?_⟩, fun q => u123_10 ?_⟩
        · have p : ¬ (va = some dc ∨ vb = some dc) := by intro p; rw [if_pos p] at hzis; omega
          have p2 : ¬ (va = none ∨ vb = none) := by intro p2; rw [if_pos ⟨p, p2⟩] at hz; omega
          rw [am_x_in (by omega) (by omega)]
          exact fin (some (1 - dc)) c5 (sA.tr s5) (hev.trans (by unfold x_bo; rw [if_neg p, if_neg p2])) (by rw [n5, q]; rfl)
        · have p : (va = some dc ∨ vb = some dc) := by
            by_cases p : (va = some dc ∨ vb = some dc)
            · exact p
            · rw [if_neg p] at hzis; exact absurd hzis q2
          exact fin (some dc) c5 (sA.tr s5) (hev.trans (by unfold x_bo; rw [if_pos p])) (by rw [n5, q]; rfl)
        · have p : ¬ (va = some dc ∨ vb = some dc) ∧ (va = none ∨ vb = none) := by
            by_cases p : ¬ (va = some dc ∨ vb = some dc) ∧ (va = none ∨ vb = none)
            · exact p
            · rw [if_neg p] at hz; exact absurd hz q
          refine fin none c5 (sA.tr s5) (hev.trans (by unfold x_bo; rw [if_neg p.1, if_pos p.2])) ?_
          rw [n5, hz, if_pos p]; rfl
      have b4 : ∀ zis z11 : Int, (zis = if va = some dc ∨ vb = some dc then 1 else 0) → cw (D' + 1) 123 (am_blk 123 4) [ad, (e : Int), r, dc, 0, rw_ov va, 0, x_nl va, rw_ov vb, 0, x_nl vb, z11] [zis] c3 Q := by
        intro zis z11 hzis
        refine u123_4 ⟨fun q => u123_6 (b7 _ _ hzis ?_), fun q => ⟨fun q2 => u123_5 (b7 _ _ hzis ?_), fun q2 => ⟨fun q3 => u123_6 (b7 _ _ hzis ?_), fun q3 => u123_5 (b7 _ _ hzis ?_)⟩⟩⟩
        · rw [if_neg]; intro p; rw [if_neg p.1] at hzis; exact q hzis
        · rw [if_pos ⟨fun p => by rw [if_pos p] at hzis; omega, Or.inl (an0.mpr q2)⟩]
        · rw [if_neg]; intro p; rcases p.2 with p | p
          · exact q2 (an0.mp p)
          · exact (bn0.mp p) q3
        · rw [if_pos ⟨fun p => by rw [if_pos p] at hzis; omega, Or.inr (bn0.mpr q3)⟩]
      have b2 : (va = some dc ∨ vb = some dc) → cw (D' + 1) 123 (am_blk 123 2) [ad, (e : Int), r, dc, 0, rw_ov va, 0, x_nl va, rw_ov vb, 0, x_nl vb, 0] [] c3 Q := fun p => u123_2 (b4 1 0 (by rw [if_pos p]))
      have b3 : ¬ (va = some dc ∨ vb = some dc) → cw (D' + 1) 123 (am_blk 123 3) [ad, (e : Int), r, dc, 0, rw_ov va, 0, x_nl va, rw_ov vb, 0, x_nl vb, 0] [] c3 Q := fun p => u123_3 (b4 0 0 (by rw [if_neg p]))
      have b1 : va ≠ some dc → cw (D' + 1) 123 (am_blk 123 1) [ad, (e : Int), r, dc, 0, rw_ov va, 0, x_nl va, rw_ov vb, 0, x_nl vb, 0] [] c3 Q := by
        intro p
        refine u123_1 ⟨fun q => b3 ?_, fun q => ⟨fun q2 => b3 ?_, fun q2 => b2 (Or.inr (bn.mpr ⟨by omega, lcb.1.mp (by omega)⟩))⟩⟩
        · rintro (p2 | p2)
          · exact p p2
          · exact q (bn.mp p2).1
        · rintro (p2 | p2)
          · exact p p2
          · exact q2 (lcb.1.mpr (bn.mp p2).2)
      refine ⟨K3.1.1, fun q => b1 (fun p => q (an.mp p).1), fun q => ⟨fun q2 => b2 (Or.inl (an.mpr ⟨by omega, lca.1.mp q2⟩)), fun q2 => b1 (fun p => q2 (lca.1.mpr (an.mp p).2))⟩⟩
    -- in ( )
    have inn : ∀ y : Int, (x_act T e = 15 ∧ y = 1 ∨ x_act T e = 16 ∧ y = 0) → ev T (x_env sl l) (f + 1) e = x_in y (ev T (x_env sl l) f (x_a T e).toNat) ((x_ch T 9 (x_b T e)).map (fun q => ev T (x_env sl l) f q)) → x_lt T e (x_a T e) → x_in_ok T e → (∃ ta, x_wt T sl ct τ f (x_a T e).toNat ta) → (∀ q ∈ x_ch T 9 (x_b T e), ∃ tq, x_wt T sl ct τ f q tq) → kexp_in (D' + 1) ad e r c1 Q := by
      intro y hy hev ha hin hta hq
      obtain ⟨a, ea, hae⟩ := ha.nat
      rw [ea, Int.toNat_natCast] at hta hev
      obtain ⟨ta, hta⟩ := hta
      obtain ⟨L, hL8, hL, hLe⟩ := hin
      rw [x_ch_li L 9 _ (by omega) hL] at hev hq
      refine u124_e ⟨h0, a2, by omega, by omega, h0, ?_⟩
      rw [v2, ea]
      refine ih a ta D' c1 _ hta (by omega) hD' K1 R1 (fun c2 s2 n2 => ?_)
      have K2 := K1.sm s2
      have R2 := R1.x_w s2
      obtain ⟨-, -, w3, -⟩ := K2.2.2 e he
      refine ⟨K2.1.1, K2.1.1, K2.1.2.2.2.1.1, by omega, by rw [K2.1.2.2.2.1.2]; omega, ?_⟩
      rw [w3, n2]
      generalize hva : ev T (x_env sl l) f a = va at *
      have an0 : va = none ↔ x_nl va ≠ 0 := by cases va <;> simp [x_nl]
      have loop : ∀ (L : List Nat) (q : Int) (ys : List (Option Int)) (cc : cs_S) (z9 : Int), x_li T q L → (∀ k ∈ L, k < e ∧ ∃ tq, x_wt T sl ct τ f k tq) → c_sm (xw ad) c cc → ev T (x_env sl l) (f + 1) e = x_in y va (ys ++ L.map (fun q => ev T (x_env sl l) f q)) → cw (D' + 1) 124 (am_blk 124 1) [ad, (e : Int), r, rw_ov va, 0, x_nl va, (if va ≠ none ∧ va ∈ ys then 1 else 0), (if va = none ∨ none ∈ ys then 1 else 0), q, z9, 0] [] cc Q := by
        intro L
        induction L with
        | nil =>
          intro q ys cc z9 hL hk sc hev
          rw [List.map_nil, List.append_nil] at hev
          have Kc := hK.sm sc
          have b6 : ∀ z : Int, (z = if ¬ (va ≠ none ∧ va ∈ ys) ∧ (va = none ∨ none ∈ ys) then 1 else 0) → cw (D' + 1) 124 (am_blk 124 6) [ad, (e : Int), r, rw_ov va, 0, x_nl va, (if va ≠ none ∧ va ∈ ys then 1 else 0), (if va = none ∨ none ∈ ys then 1 else 0), q, z9, 0] [z, ad] cc Q := by
            intro z hz
            refine u124_6 ⟨Kc.1.1, fun c5 e5 => ?_⟩
            have s5 : c_sm (xw ad) cc c5 := by subst e5; exact c_sm.u cc ⟨rfl, rfl⟩ _ _
            have n5 : c_v c5 212 ad 0 = z := by subst e5; exact c_u_eq _ _ _ _ _
            have K5 := Kc.sm s5
            obtain ⟨w1, -⟩ := K5.2.2 e he
            rw [n5, w1]
            have b9 : ∀ z2 : Int, (z2 = if x_act T e = 15 then 1 else 0) → z = 0 → cw (D' + 1) 124 (am_blk 124 9) [ad, (e : Int), r, rw_ov va, 0, x_nl va, (if va ≠ none ∧ va ∈ ys then 1 else 0), (if va = none ∨ none ∈ ys then 1 else 0), q, z9, 0] [z2, (if va ≠ none ∧ va ∈ ys then 1 else 0)] c5 Q := by
              intro z2 hz2 hz0
              have hz2y : z2 = y := by rcases hy with ⟨p1, p2⟩ | ⟨p1, p2⟩ <;> rw [hz2, p1, p2] <;> decide
              by_cases p : va ≠ none ∧ va ∈ ys
              · rw [if_pos p]
                refine u124_9 ⟨fun q1 => u124_11 ?_, fun q1 => u124_11 ?_⟩
                · have : y = 0 := by omega
                  exact fin (some 0) c5 (sc.tr s5) (hev.trans (by unfold x_in; rw [if_pos p, this])) (by rw [n5, hz0]; rfl)
                · have : y = 1 := by omega
                  exact fin (some 1) c5 (sc.tr s5) (hev.trans (by unfold x_in; rw [if_pos p, this])) (by rw [n5, hz0]; rfl)
              · have p2 : ¬ (va = none ∨ none ∈ ys) := by intro p2; rw [if_pos ⟨p, p2⟩] at hz; omega
                rw [if_neg p]
                refine u124_9 ⟨fun q1 => u124_11 ?_, fun q1 => u124_11 ?_⟩
                · have : y = 1 := by omega
                  exact fin (some 0) c5 (sc.tr s5) (hev.trans (by unfold x_in; rw [if_neg p, if_neg p2, this]; rfl)) (by rw [n5, hz0]; rfl)
                · have : y = 0 := by omega
                  exact fin (some 1) c5 (sc.tr s5) (hev.trans (by unfold x_in; rw [if_neg p, if_neg p2, this]; rfl)) (by rw [n5, hz0]; rfl)
            refine ⟨K5.1.1, fun q1 => ⟨K5.1.1, K5.1.2.1.1, by omega, by rw [K5.1.2.1.2]; omega, fun q2 => b9 0 (by rw [if_neg q2]) q1, fun q2 => b9 1 (by rw [if_pos (by omega)]) q1⟩, fun q1 => u124_11 ?_⟩
            have p : ¬ (va ≠ none ∧ va ∈ ys) ∧ (va = none ∨ none ∈ ys) := by
              by_cases p : ¬ (va ≠ none ∧ va ∈ ys) ∧ (va = none ∨ none ∈ ys)
              · exact p
              · rw [if_neg p] at hz; exact absurd hz q1
            refine fin none c5 (sc.tr s5) (hev.trans (by unfold x_in; rw [if_neg p.1, if_pos p.2])) ?_
            rw [n5, hz, if_pos p]; rfl
          refine u124_1 ⟨fun _ => ⟨fun q1 => u124_5 (b6 0 ?_), fun q1 => ⟨fun q2 => u124_5 (b6 0 ?_), fun q2 => b6 1 ?_⟩⟩, fun w => absurd hL w⟩
          · rw [if_neg]; intro p; rw [if_neg p.1] at q1; exact q1 rfl
          · rw [if_neg]; intro p; rw [if_pos p.2] at q2; exact absurd q2 (by decide)
          · rw [if_pos]
            refine ⟨fun p => q1 (by rw [if_pos p]; decide), ?_⟩
            by_cases p : va = none ∨ none ∈ ys
            · exact p
            · rw [if_neg p] at q2; exact absurd rfl q2
        | cons k L ihL =>
          intro q ys cc z9 hL hk sc hev
          have Kc := hK.sm sc
          have Rc := hr.x_w sc
          obtain ⟨hq1, hL2⟩ := hL
          obtain ⟨hke, tq, htq⟩ := hk k List.mem_cons_self
          have hev2 : ev T (x_env sl l) (f + 1) e = x_in y va ((ys ++ [ev T (x_env sl l) f k]) ++ L.map (fun q => ev T (x_env sl l) f q)) := by
            rw [hev, List.map_cons, List.append_assoc]; rfl
          refine u124_1 ⟨fun w => by omega, fun _ => ⟨Kc.1.1, ?_⟩⟩
          rw [hq1]
          refine ih k tq D' cc _ htq (by omega) hD' Kc Rc (fun c3 s3 n3 => ?_)
          have K3 := Kc.sm s3
          rw [n3]
          have bn0 : ev T (x_env sl l) f k = none ↔ x_nl (ev T (x_env sl l) f k) ≠ 0 := by cases ev T (x_env sl l) f k <;> simp [x_nl]
          have hun : am_or (if va = none ∨ none ∈ ys then 1 else 0) (x_nl (ev T (x_env sl l) f k)) = if va = none ∨ none ∈ ys ++ [ev T (x_env sl l) f k] then 1 else 0 := by
            unfold x_nl
            rw [b_or]
            simp only [List.mem_append, List.mem_singleton, or_assoc, eq_comm]
          rw [hun]
          have b3 : ∀ z : Int, (z = if va ≠ none ∧ va = ev T (x_env sl l) f k then 1 else 0) → cw (D' + 1) 124 (am_blk 124 3) [ad, (e : Int), r, rw_ov va, 0, x_nl va, (if va ≠ none ∧ va ∈ ys then 1 else 0), (if va = none ∨ none ∈ ys ++ [ev T (x_env sl l) f k] then 1 else 0), (k : Int), rw_ov (ev T (x_env sl l) f k), 0] [z, (if va ≠ none ∧ va ∈ ys then 1 else 0)] c3 Q := by
            intro z hz
            obtain ⟨-, -, -, -, w5, -⟩ := K3.2.2 k (by omega)
            refine u124_3 ⟨K3.1.1, K3.1.2.2.2.2.2.1.1, by omega, by rw [K3.1.2.2.2.2.2.1.2]; omega, ?_⟩
            rw [w5, hz, b_or]
            have := ihL (x_n T k) (ys ++ [ev T (x_env sl l) f k]) c3 (rw_ov (ev T (x_env sl l) f k)) hL2 (fun j hj => hk j (List.mem_cons_of_mem _ hj)) (sc.tr s3) hev2
            have e7 : (if va ≠ none ∧ va ∈ ys ∨ va ≠ none ∧ va = ev T (x_env sl l) f k then (1 : Int) else 0) = if va ≠ none ∧ va ∈ ys ++ [ev T (x_env sl l) f k] then 1 else 0 := by
              simp only [List.mem_append, List.mem_singleton, and_or_left]
            rw [e7]
            exact this
          refine ⟨K3.1.1, fun q1 => u124_2 (b3 0 ?_), fun q1 => ⟨K3.1.1, fun q2 => u124_2 (b3 0 ?_), fun q2 => ⟨fun q3 => u124_2 (b3 0 ?_), fun q3 => b3 1 ?_⟩⟩⟩
          · rw [if_neg]; intro p; exact p.1 (an0.mpr q1)
          · rw [if_neg]; intro p; exact p.1 (p.2.trans (bn0.mpr q2))
          · rw [if_neg]; intro p; exact q3 ((lc_iff _ _).1.mpr (by rw [p.2]))
          · rw [if_pos]
            refine ⟨fun p => q1 (an0.mp p), ?_⟩
            have e8 := (lc_iff _ _).1.mp (Classical.not_not.mp q3)
            cases hvb : ev T (x_env sl l) f k with
            | none => exact absurd (bn0.mp hvb) q2
            | some z =>
              rw [hvb] at e8
              cases hv2 : va with
              | none => exact absurd (an0.mp hv2) q1
              | some z2 => rw [hv2] at e8; exact congrArg some e8
      have := loop L (x_b T e) [] c2 0 hL (fun k hk => ⟨hLe k hk, hq k hk⟩) (s1.tr s2) hev
      have e8 : (if va ≠ none ∧ va ∈ ([] : List (Option Int)) then (1 : Int) else 0) = 0 := by simp
      have e9 : (if va = none ∨ none ∈ ([] : List (Option Int)) then (1 : Int) else 0) = x_nl va := by unfold x_nl; simp
      rw [e8, e9] at this
      exact this
    have lit : (x_act T e = 0 ∨ x_act T e = 2) → cw (D' + 2) 122 (am_blk 122 1) [ad, (e : Int), r, x_act T e, 0, 0, 0, 0, 0, 0, 0] [] c1 Q := by
      intro h
      refine u122_1 ⟨h0, a6, by omega, by omega, ?_⟩
      rw [v6]
      exact fin (some (x_v T e)) c1 s1 (ev_lit h) (by rw [n1]; rfl)
    unfold x_wt at hw
    rcases hw with ⟨h, rfl⟩ | ⟨h, rfl⟩ | ⟨h, rfl, hv⟩ | ⟨h, g1, g2, g3, g4⟩ | ⟨h, ha, hb, rfl, ⟨ta, hta, -⟩, tb, htb, -⟩ | ⟨h, ha, rfl, ta, hta, hn⟩ | ⟨h, ha, hb, rfl, ⟨ta, hta, -⟩, tb, htb, -⟩ | ⟨h, ha, rfl, ta, hta⟩ | ⟨h, ha, hb, rfl, ⟨ta, hta, -⟩, hq⟩ | ⟨h, ha, hb, rfl, ⟨ta, hta, -⟩, tb, htb, -⟩ | ⟨h, ha, rfl, ta, hta, -⟩ | ⟨h, ha, hb, hc, ⟨ta, hta, -⟩, tb, tc, htb, htc, h5, rfl⟩
    · exact ⟨fun w => absurd w (by omega), fun w => lit (Or.inl w), fun w => absurd (h.symm.trans w) (by decide), fun w => absurd (h.symm.trans w) (by decide), fun w => absurd (h.symm.trans w) (by decide), fun w => absurd (h.symm.trans w) (by decide), fun w => absurd (h.symm.trans w) (by decide), fun w => absurd (h.symm.trans w) (by decide), fun w => absurd (h.symm.trans w) (by decide), fun w => absurd (h.symm.trans w) (by decide), fun w => absurd (h.symm.trans w) (by decide), fun w => absurd (h.symm.trans w) (by decide), fun w => absurd (h.symm.trans w) (by decide), fun w => absurd (h.symm.trans w) (by decide), fun w => absurd (h.symm.trans w) (by decide), fun w => absurd (h.symm.trans w) (by decide), fun w => absurd (h.symm.trans w) (by decide), fun w => absurd (h.symm.trans w) (by decide), fun w => absurd (h.symm.trans w) (by decide), fun w => absurd (h.symm.trans w) (by decide), fun w => absurd (h.symm.trans w) (by decide), fun w => absurd (h.symm.trans w) (by decide), fun w => absurd (h.symm.trans w) (by decide), fun w => absurd (h.symm.trans w) (by decide), fun w => absurd (h.symm.trans w) (by decide), fun w => absurd (h.symm.trans w) (by decide), fun w => absurd (h.symm.trans w) (by decide), fun w => absurd (h.symm.trans w) (by decide), fun w => absurd (h.symm.trans w) (by decide), fun w => absurd (h.symm.trans w) (by decide), fun w => absurd (h.symm.trans w) (by decide), trivial⟩
    · refine ⟨fun w => absurd w (by omega), fun w => absurd (h.symm.trans w) (by decide), fun w => ⟨h0, fun c2 e2 => ?_⟩, fun w => absurd (h.symm.trans w) (by decide), fun w => absurd (h.symm.trans w) (by decide), fun w => absurd (h.symm.trans w) (by decide), fun w => absurd (h.symm.trans w) (by decide), fun w => absurd (h.symm.trans w) (by decide), fun w => absurd (h.symm.trans w) (by decide), fun w => absurd (h.symm.trans w) (by decide), fun w => absurd (h.symm.trans w) (by decide), fun w => absurd (h.symm.trans w) (by decide), fun w => absurd (h.symm.trans w) (by decide), fun w => absurd (h.symm.trans w) (by decide), fun w => absurd (h.symm.trans w) (by decide), fun w => absurd (h.symm.trans w) (by decide), fun w => absurd (h.symm.trans w) (by decide), fun w => absurd (h.symm.trans w) (by decide), fun w => absurd (h.symm.trans w) (by decide), fun w => absurd (h.symm.trans w) (by decide), fun w => absurd (h.symm.trans w) (by decide), fun w => absurd (h.symm.trans w) (by decide), fun w => absurd (h.symm.trans w) (by decide), fun w => absurd (h.symm.trans w) (by decide), fun w => absurd (h.symm.trans w) (by decide), fun w => absurd (h.symm.trans w) (by decide), fun w => absurd (h.symm.trans w) (by decide), fun w => absurd (h.symm.trans w) (by decide), fun w => absurd (h.symm.trans w) (by decide), fun w => absurd (h.symm.trans w) (by decide), fun w => absurd (h.symm.trans w) (by decide), trivial⟩
      have s2 : c_sm (xw ad) c1 c2 := by subst e2; exact c_sm.u c1 ⟨rfl, rfl⟩ _ _
      exact fin none c2 (s1.tr s2) (ev_null h) (by subst e2; rw [c_u_eq]; rfl)
    · exact ⟨fun w => absurd w (by omega), fun w => absurd (h.symm.trans w) (by decide), fun w => absurd (h.symm.trans w) (by decide), fun w => lit (Or.inr w), fun w => absurd (h.symm.trans w) (by decide), fun w => absurd (h.symm.trans w) (by decide), fun w => absurd (h.symm.trans w) (by decide), fun w => absurd (h.symm.trans w) (by decide), fun w => absurd (h.symm.trans w) (by decide), fun w => absurd (h.symm.trans w) (by decide), fun w => absurd (h.symm.trans w) (by decide), fun w => absurd (h.symm.trans w) (by decide), fun w => absurd (h.symm.trans w) (by decide), fun w => absurd (h.symm.trans w) (by decide), fun w => absurd (h.symm.trans w) (by decide), fun w => absurd (h.symm.trans w) (by decide), fun w => absurd (h.symm.trans w) (by decide), fun w => absurd (h.symm.trans w) (by decide), fun w => absurd (h.symm.trans w) (by decide), fun w => absurd (h.symm.trans w) (by decide), fun w => absurd (h.symm.trans w) (by decide), fun w => absurd (h.symm.trans w) (by decide), fun w => absurd (h.symm.trans w) (by decide), fun w => absurd (h.symm.trans w) (by decide), fun w => absurd (h.symm.trans w) (by decide), fun w => absurd (h.symm.trans w) (by decide), fun w => absurd (h.symm.trans w) (by decide), fun w => absurd (h.symm.trans w) (by decide), fun w => absurd (h.symm.trans w) (by decide), fun w => absurd (h.symm.trans w) (by decide), fun w => absurd (h.symm.trans w) (by decide), trivial⟩
    · have col : cw (D' + 2) 122 (am_blk 122 3) [ad, (e : Int), r, x_act T e, 0, 0, 0, 0, 0, 0, 0] [] c1 Q := by
        have hlt : (sl e).toNat < τ.length := (List.getElem?_eq_some_iff.mp g4).1
        have hl24 := R1.2.2.1
        have hlen := hg.1
        refine u122_3 ⟨h0, a7, by omega, by omega, R1.1.1, ?_⟩
        rw [v7]
        refine k_isNull R1 g3 (by omega) ⟨h0, fun c2 e2 => ?_⟩
        have s2 : c_sm (xw ad) c1 c2 := by subst e2; exact c_sm.u c1 ⟨rfl, rfl⟩ _ _
        have K2 := K1.sm s2
        have R2 := R1.x_w s2
        obtain ⟨-, -, -, -, -, -, w7⟩ := K2.2.2 e he
        refine ⟨K2.1.1, K2.1.2.2.2.2.2.2.2.1, by omega, by rw [K2.1.2.2.2.2.2.2.2.2]; omega, R2.1.1, ?_⟩
        have hk : (sl e).toNat < l.length := by omega
        have hget := List.getElem?_eq_getElem hk
        have esl : sl e = (((sl e).toNat : Nat) : Int) := by omega
        rw [w7, esl]
        refine k_value R2 hget ?_
        have hev : ev T (x_env sl l) (f + 1) e = l[(sl e).toNat] := by
          rw [ev_col (by omega)]
          unfold x_env
          rw [List.getD_eq_getElem?_getD, hget]
          rfl
        refine fin _ c2 (s1.tr s2) hev ?_
        subst e2
        rw [c_u_eq, hget]
        unfold x_nl
        simp only [Option.some.injEq]
      exact ⟨fun w => absurd w (by omega), fun w => absurd w (by omega), fun w => absurd w (by omega), fun w => absurd w (by omega), fun w => col, fun w => absurd w (by omega), fun w => absurd w (by omega), fun w => absurd w (by omega), fun w => absurd w (by omega), fun w => absurd w (by omega), fun w => absurd w (by omega), fun w => absurd w (by omega), fun w => absurd w (by omega), fun w => absurd w (by omega), fun w => absurd w (by omega), fun w => absurd w (by omega), fun w => absurd w (by omega), fun w => absurd w (by omega), fun w => absurd w (by omega), fun w => absurd w (by omega), fun w => absurd w (by omega), fun w => absurd w (by omega), fun w => absurd w (by omega), fun w => absurd w (by omega), fun w => absurd w (by omega), fun w => absurd w (by omega), fun w => col, fun w => col, fun w => col, fun w => col, fun w => col, trivial⟩
    · rcases h with h | h
      · exact ⟨fun w => absurd w (by omega), fun w => absurd (h.symm.trans w) (by decide), fun w => absurd (h.symm.trans w) (by decide), fun w => absurd (h.symm.trans w) (by decide), fun w => absurd (h.symm.trans w) (by decide), fun w => u122_4 ⟨fun q => absurd w q, fun _ => u122_6 ⟨h0, both 1 (Or.inr rfl) (ev_or h) ha hb ⟨ta, hta⟩ ⟨tb, htb⟩⟩⟩, fun w => absurd (h.symm.trans w) (by decide), fun w => absurd (h.symm.trans w) (by decide), fun w => absurd (h.symm.trans w) (by decide), fun w => absurd (h.symm.trans w) (by decide), fun w => absurd (h.symm.trans w) (by decide), fun w => absurd (h.symm.trans w) (by decide), fun w => absurd (h.symm.trans w) (by decide), fun w => absurd (h.symm.trans w) (by decide), fun w => absurd (h.symm.trans w) (by decide), fun w => absurd (h.symm.trans w) (by decide), fun w => absurd (h.symm.trans w) (by decide), fun w => absurd (h.symm.trans w) (by decide), fun w => absurd (h.symm.trans w) (by decide), fun w => absurd (h.symm.trans w) (by decide), fun w => absurd (h.symm.trans w) (by decide), fun w => absurd (h.symm.trans w) (by decide), fun w => absurd (h.symm.trans w) (by decide), fun w => absurd (h.symm.trans w) (by decide), fun w => absurd (h.symm.trans w) (by decide), fun w => absurd (h.symm.trans w) (by decide), fun w => absurd (h.symm.trans w) (by decide), fun w => absurd (h.symm.trans w) (by decide), fun w => absurd (h.symm.trans w) (by decide), fun w => absurd (h.symm.trans w) (by decide), fun w => absurd (h.symm.trans w) (by decide), trivial⟩
      · exact ⟨fun w => absurd w (by omega), fun w => absurd (h.symm.trans w) (by decide), fun w => absurd (h.symm.trans w) (by decide), fun w => absurd (h.symm.trans w) (by decide), fun w => absurd (h.symm.trans w) (by decide), fun w => absurd (h.symm.trans w) (by decide), fun w => u122_4 ⟨fun _ => u122_6 ⟨h0, both 0 (Or.inl rfl) (ev_and h) ha hb ⟨ta, hta⟩ ⟨tb, htb⟩⟩, fun q => absurd (by omega) q⟩, fun w => absurd (h.symm.trans w) (by decide), fun w => absurd (h.symm.trans w) (by decide), fun w => absurd (h.symm.trans w) (by decide), fun w => absurd (h.symm.trans w) (by decide), fun w => absurd (h.symm.trans w) (by decide), fun w => absurd (h.symm.trans w) (by decide), fun w => absurd (h.symm.trans w) (by decide), fun w => absurd (h.symm.trans w) (by decide), fun w => absurd (h.symm.trans w) (by decide), fun w => absurd (h.symm.trans w) (by decide), fun w => absurd (h.symm.trans w) (by decide), fun w => absurd (h.symm.trans w) (by decide), fun w => absurd (h.symm.trans w) (by decide), fun w => absurd (h.symm.trans w) (by decide), fun w => absurd (h.symm.trans w) (by decide), fun w => absurd (h.symm.trans w) (by decide), fun w => absurd (h.symm.trans w) (by decide), fun w => absurd (h.symm.trans w) (by decide), fun w => absurd (h.symm.trans w) (by decide), fun w => absurd (h.symm.trans w) (by decide), fun w => absurd (h.symm.trans w) (by decide), fun w => absurd (h.symm.trans w) (by decide), fun w => absurd (h.symm.trans w) (by decide), fun w => absurd (h.symm.trans w) (by decide), trivial⟩
    · refine ⟨fun w => absurd w (by omega), fun w => absurd (h.symm.trans w) (by decide), fun w => absurd (h.symm.trans w) (by decide), fun w => absurd (h.symm.trans w) (by decide), fun w => absurd (h.symm.trans w) (by decide), fun w => absurd (h.symm.trans w) (by decide), fun w => absurd (h.symm.trans w) (by decide), fun w => ⟨h0, a2, by omega, by omega, h0, ?_⟩, fun w => absurd (h.symm.trans w) (by decide), fun w => absurd (h.symm.trans w) (by decide), fun w => absurd (h.symm.trans w) (by decide), fun w => absurd (h.symm.trans w) (by decide), fun w => absurd (h.symm.trans w) (by decide), fun w => absurd (h.symm.trans w) (by decide), fun w => absurd (h.symm.trans w) (by decide), fun w => absurd (h.symm.trans w) (by decide), fun w => absurd (h.symm.trans w) (by decide), fun w => absurd (h.symm.trans w) (by decide), fun w => absurd (h.symm.trans w) (by decide), fun w => absurd (h.symm.trans w) (by decide), fun w => absurd (h.symm.trans w) (by decide), fun w => absurd (h.symm.trans w) (by decide), fun w => absurd (h.symm.trans w) (by decide), fun w => absurd (h.symm.trans w) (by decide), fun w => absurd (h.symm.trans w) (by decide), fun w => absurd (h.symm.trans w) (by decide), fun w => absurd (h.symm.trans w) (by decide), fun w => absurd (h.symm.trans w) (by decide), fun w => absurd (h.symm.trans w) (by decide), fun w => absurd (h.symm.trans w) (by decide), fun w => absurd (h.symm.trans w) (by decide), trivial⟩
      have hev := ev_not (env := x_env sl l) (f := f) h
      obtain ⟨a, ea, hae⟩ := ha.nat
      rw [ea, Int.toNat_natCast] at hta hev
      rw [v2, ea]
      refine ih a ta (D' + 1) c1 _ hta (by omega) (by omega) K1 R1 (fun c2 s2 n2 => ⟨(K1.sm s2).1.1, ?_⟩)
      rw [n2]
      cases hv : ev T (x_env sl l) f a with
      | none =>
        rw [hv] at hev n2
        exact ⟨fun q => absurd q (by simp [x_nl]), fun q => u122_9 (fin none c2 (s1.tr s2) hev n2)⟩
      | some x =>
        rw [hv] at hev n2
        exact ⟨fun q => u122_9 (fin (some (am_x (1 - x))) c2 (s1.tr s2) hev n2), fun q => absurd (by simp [x_nl]) q⟩
    · exact ⟨fun w => absurd w (by omega), fun w => absurd w (by omega), fun w => absurd w (by omega), fun w => absurd w (by omega), fun w => absurd w (by omega), fun w => absurd w (by omega), fun w => absurd w (by omega), fun w => absurd w (by omega), fun w => u122_24 ⟨h0, two (by omega) ha hb ⟨ta, hta⟩ ⟨tb, htb⟩⟩, fun w => u122_24 ⟨h0, two (by omega) ha hb ⟨ta, hta⟩ ⟨tb, htb⟩⟩, fun w => u122_24 ⟨h0, two (by omega) ha hb ⟨ta, hta⟩ ⟨tb, htb⟩⟩, fun w => u122_24 ⟨h0, two (by omega) ha hb ⟨ta, hta⟩ ⟨tb, htb⟩⟩, fun w => u122_24 ⟨h0, two (by omega) ha hb ⟨ta, hta⟩ ⟨tb, htb⟩⟩, fun w => u122_24 ⟨h0, two (by omega) ha hb ⟨ta, hta⟩ ⟨tb, htb⟩⟩, fun w => absurd w (by omega), fun w => absurd w (by omega), fun w => absurd w (by omega), fun w => absurd w (by omega), fun w => absurd w (by omega), fun w => absurd w (by omega), fun w => absurd w (by omega), fun w => absurd w (by omega), fun w => absurd w (by omega), fun w => absurd w (by omega), fun w => absurd w (by omega), fun w => absurd w (by omega), fun w => absurd w (by omega), fun w => absurd w (by omega), fun w => absurd w (by omega), fun w => absurd w (by omega), fun w => absurd w (by omega), trivial⟩
    · have isn : cw (D' + 2) 122 (am_blk 122 10) [ad, (e : Int), r, x_act T e, 0, 0, 0, 0, 0, 0, 0] [] c1 Q := by
        obtain ⟨a, ea, hae⟩ := ha.nat
        rw [ea, Int.toNat_natCast] at hta
        refine u122_10 ⟨h0, a2, by omega, by omega, h0, ?_⟩
        rw [v2, ea]
        refine ih a ta (D' + 1) c1 _ hta (by omega) (by omega) K1 R1 (fun c2 s2 n2 => ⟨(K1.sm s2).1.1, ?_⟩)
        rw [n2]
        have K2 := K1.sm s2
        have b14 : ∀ z z6 : Int, some z = ev T (x_env sl l) (f + 1) e → (z = 0 ∨ z = 1) → cw (D' + 2) 122 (am_blk 122 14) [ad, (e : Int), r, x_act T e, 0, 0, z6, 0, 0, 0, 0] [z] c2 Q := by
          intro z z6 hz hz01
          refine u122_14 ⟨K2.1.1, fun c3 e3 => ?_⟩
          have s3 : c_sm (xw ad) c2 c3 := by subst e3; exact c_sm.u c2 ⟨rfl, rfl⟩ _ _
          have n3 : c_v c3 212 ad 0 = 0 := by subst e3; exact c_u_eq _ _ _ _ _
          refine ⟨fun q => u122_16 ?_, fun q => u122_16 ?_⟩
          · exact fin (some 0) c3 ((s1.tr s2).tr s3) (by rw [← hz, q]) (by rw [n3]; rfl)
          · have : z = 1 := by omega
            exact fin (some 1) c3 ((s1.tr s2).tr s3) (by rw [← hz, this]) (by rw [n3]; rfl)
        have an0 : ev T (x_env sl l) f a = none ↔ x_nl (ev T (x_env sl l) f a) = 1 := by cases ev T (x_env sl l) f a <;> simp [x_nl]
        have an1 : ¬ ev T (x_env sl l) f a = none ↔ x_nl (ev T (x_env sl l) f a) = 0 := by cases ev T (x_env sl l) f a <;> simp [x_nl]
        rcases h with h | h
        · have hev := ev_is (env := x_env sl l) (f := f) h
          rw [ea, Int.toNat_natCast] at hev
          refine ⟨fun q => absurd h q, fun q => u122_12 ⟨fun q2 => b14 0 0 ?_ (Or.inl rfl), fun q2 => b14 1 0 ?_ (Or.inr rfl)⟩⟩
          · rw [hev, if_neg (fun p => q2 (an0.mp p))]
          · rw [hev, if_pos (an0.mpr (by omega))]
        · have hev := ev_isn (env := x_env sl l) (f := f) h
          rw [ea, Int.toNat_natCast] at hev
          refine ⟨fun q => u122_12 ⟨fun q2 => b14 0 0 ?_ (Or.inl rfl), fun q2 => b14 1 0 ?_ (Or.inr rfl)⟩, fun q => absurd (by omega) q⟩
          · rw [hev, if_pos]
            apply Classical.byContradiction
            intro p
            exact q2 (an1.mp p)
          · rw [hev, if_neg (an1.mpr (by omega))]
      exact ⟨fun w => absurd w (by omega), fun w => absurd w (by omega), fun w => absurd w (by omega), fun w => absurd w (by omega), fun w => absurd w (by omega), fun w => absurd w (by omega), fun w => absurd w (by omega), fun w => absurd w (by omega), fun w => absurd w (by omega), fun w => absurd w (by omega), fun w => absurd w (by omega), fun w => absurd w (by omega), fun w => absurd w (by omega), fun w => absurd w (by omega), fun w => isn, fun w => isn, fun w => absurd w (by omega), fun w => absurd w (by omega), fun w => absurd w (by omega), fun w => absurd w (by omega), fun w => absurd w (by omega), fun w => absurd w (by omega), fun w => absurd w (by omega), fun w => absurd w (by omega), fun w => absurd w (by omega), fun w => absurd w (by omega), fun w => absurd w (by omega), fun w => absurd w (by omega), fun w => absurd w (by omega), fun w => absurd w (by omega), fun w => absurd w (by omega), trivial⟩
    · rcases h with h | h
      · exact ⟨fun w => absurd w (by omega), fun w => absurd (h.symm.trans w) (by decide), fun w => absurd (h.symm.trans w) (by decide), fun w => absurd (h.symm.trans w) (by decide), fun w => absurd (h.symm.trans w) (by decide), fun w => absurd (h.symm.trans w) (by decide), fun w => absurd (h.symm.trans w) (by decide), fun w => absurd (h.symm.trans w) (by decide), fun w => absurd (h.symm.trans w) (by decide), fun w => absurd (h.symm.trans w) (by decide), fun w => absurd (h.symm.trans w) (by decide), fun w => absurd (h.symm.trans w) (by decide), fun w => absurd (h.symm.trans w) (by decide), fun w => absurd (h.symm.trans w) (by decide), fun w => absurd (h.symm.trans w) (by decide), fun w => absurd (h.symm.trans w) (by decide), fun w => u122_17 ⟨h0, inn 1 (Or.inl ⟨h, rfl⟩) (ev_in h) ha hb ⟨ta, hta⟩ (fun q hqq => by obtain ⟨tq, h1, -⟩ := hq q hqq; exact ⟨tq, h1⟩)⟩, fun w => absurd (h.symm.trans w) (by decide), fun w => absurd (h.symm.trans w) (by decide), fun w => absurd (h.symm.trans w) (by decide), fun w => absurd (h.symm.trans w) (by decide), fun w => absurd (h.symm.trans w) (by decide), fun w => absurd (h.symm.trans w) (by decide), fun w => absurd (h.symm.trans w) (by decide), fun w => absurd (h.symm.trans w) (by decide), fun w => absurd (h.symm.trans w) (by decide), fun w => absurd (h.symm.trans w) (by decide), fun w => absurd (h.symm.trans w) (by decide), fun w => absurd (h.symm.trans w) (by decide), fun w => absurd (h.symm.trans w) (by decide), fun w => absurd (h.symm.trans w) (by decide), trivial⟩
      · exact ⟨fun w => absurd w (by omega), fun w => absurd (h.symm.trans w) (by decide), fun w => absurd (h.symm.trans w) (by decide), fun w => absurd (h.symm.trans w) (by decide), fun w => absurd (h.symm.trans w) (by decide), fun w => absurd (h.symm.trans w) (by decide), fun w => absurd (h.symm.trans w) (by decide), fun w => absurd (h.symm.trans w) (by decide), fun w => absurd (h.symm.trans w) (by decide), fun w => absurd (h.symm.trans w) (by decide), fun w => absurd (h.symm.trans w) (by decide), fun w => absurd (h.symm.trans w) (by decide), fun w => absurd (h.symm.trans w) (by decide), fun w => absurd (h.symm.trans w) (by decide), fun w => absurd (h.symm.trans w) (by decide), fun w => absurd (h.symm.trans w) (by decide), fun w => absurd (h.symm.trans w) (by decide), fun w => u122_17 ⟨h0, inn 0 (Or.inr ⟨h, rfl⟩) (ev_nin h) ha hb ⟨ta, hta⟩ (fun q hqq => by obtain ⟨tq, h1, -⟩ := hq q hqq; exact ⟨tq, h1⟩)⟩, fun w => absurd (h.symm.trans w) (by decide), fun w => absurd (h.symm.trans w) (by decide), fun w => absurd (h.symm.trans w) (by decide), fun w => absurd (h.symm.trans w) (by decide), fun w => absurd (h.symm.trans w) (by decide), fun w => absurd (h.symm.trans w) (by decide), fun w => absurd (h.symm.trans w) (by decide), fun w => absurd (h.symm.trans w) (by decide), fun w => absurd (h.symm.trans w) (by decide), fun w => absurd (h.symm.trans w) (by decide), fun w => absurd (h.symm.trans w) (by decide), fun w => absurd (h.symm.trans w) (by decide), fun w => absurd (h.symm.trans w) (by decide), trivial⟩
    · exact ⟨fun w => absurd w (by omega), fun w => absurd w (by omega), fun w => absurd w (by omega), fun w => absurd w (by omega), fun w => absurd w (by omega), fun w => absurd w (by omega), fun w => absurd w (by omega), fun w => absurd w (by omega), fun w => absurd w (by omega), fun w => absurd w (by omega), fun w => absurd w (by omega), fun w => absurd w (by omega), fun w => absurd w (by omega), fun w => absurd w (by omega), fun w => absurd w (by omega), fun w => absurd w (by omega), fun w => absurd w (by omega), fun w => absurd w (by omega), fun w => u122_24 ⟨h0, two (by omega) ha hb ⟨ta, hta⟩ ⟨tb, htb⟩⟩, fun w => u122_24 ⟨h0, two (by omega) ha hb ⟨ta, hta⟩ ⟨tb, htb⟩⟩, fun w => u122_24 ⟨h0, two (by omega) ha hb ⟨ta, hta⟩ ⟨tb, htb⟩⟩, fun w => u122_24 ⟨h0, two (by omega) ha hb ⟨ta, hta⟩ ⟨tb, htb⟩⟩, fun w => u122_24 ⟨h0, two (by omega) ha hb ⟨ta, hta⟩ ⟨tb, htb⟩⟩, fun w => absurd w (by omega), fun w => absurd w (by omega), fun w => u122_24 ⟨h0, two (by omega) ha hb ⟨ta, hta⟩ ⟨tb, htb⟩⟩, fun w => absurd w (by omega), fun w => absurd w (by omega), fun w => absurd w (by omega), fun w => absurd w (by omega), fun w => absurd w (by omega), trivial⟩
    · refine ⟨fun w => absurd w (by omega), fun w => absurd (h.symm.trans w) (by decide), fun w => absurd (h.symm.trans w) (by decide), fun w => absurd (h.symm.trans w) (by decide), fun w => absurd (h.symm.trans w) (by decide), fun w => absurd (h.symm.trans w) (by decide), fun w => absurd (h.symm.trans w) (by decide), fun w => absurd (h.symm.trans w) (by decide), fun w => absurd (h.symm.trans w) (by decide), fun w => absurd (h.symm.trans w) (by decide), fun w => absurd (h.symm.trans w) (by decide), fun w => absurd (h.symm.trans w) (by decide), fun w => absurd (h.symm.trans w) (by decide), fun w => absurd (h.symm.trans w) (by decide), fun w => absurd (h.symm.trans w) (by decide), fun w => absurd (h.symm.trans w) (by decide), fun w => absurd (h.symm.trans w) (by decide), fun w => absurd (h.symm.trans w) (by decide), fun w => absurd (h.symm.trans w) (by decide), fun w => absurd (h.symm.trans w) (by decide), fun w => absurd (h.symm.trans w) (by decide), fun w => absurd (h.symm.trans w) (by decide), fun w => absurd (h.symm.trans w) (by decide), fun w => ⟨h0, a2, by omega, by omega, h0, ?_⟩, fun w => absurd (h.symm.trans w) (by decide), fun w => absurd (h.symm.trans w) (by decide), fun w => absurd (h.symm.trans w) (by decide), fun w => absurd (h.symm.trans w) (by decide), fun w => absurd (h.symm.trans w) (by decide), fun w => absurd (h.symm.trans w) (by decide), fun w => absurd (h.symm.trans w) (by decide), trivial⟩
      have hev := ev_neg (env := x_env sl l) (f := f) h
      obtain ⟨a, ea, hae⟩ := ha.nat
      rw [ea, Int.toNat_natCast] at hta hev
      rw [v2, ea]
      refine ih a ta (D' + 1) c1 _ hta (by omega) (by omega) K1 R1 (fun c2 s2 n2 => ⟨(K1.sm s2).1.1, ?_⟩)
      rw [n2]
      cases hv : ev T (x_env sl l) f a with
      | none =>
        rw [hv] at hev n2
        exact ⟨fun q => absurd q (by simp [x_nl]), fun q => u122_20 (fin none c2 (s1.tr s2) hev n2)⟩
      | some x =>
        rw [hv] at hev n2
        exact ⟨fun q => u122_20 (fin (some (am_x (-x))) c2 (s1.tr s2) hev n2), fun q => absurd (by simp [x_nl]) q⟩
    · refine ⟨fun w => absurd w (by omega), fun w => absurd (h.symm.trans w) (by decide), fun w => absurd (h.symm.trans w) (by decide), fun w => absurd (h.symm.trans w) (by decide), fun w => absurd (h.symm.trans w) (by decide), fun w => absurd (h.symm.trans w) (by decide), fun w => absurd (h.symm.trans w) (by decide), fun w => absurd (h.symm.trans w) (by decide), fun w => absurd (h.symm.trans w) (by decide), fun w => absurd (h.symm.trans w) (by decide), fun w => absurd (h.symm.trans w) (by decide), fun w => absurd (h.symm.trans w) (by decide), fun w => absurd (h.symm.trans w) (by decide), fun w => absurd (h.symm.trans w) (by decide), fun w => absurd (h.symm.trans w) (by decide), fun w => absurd (h.symm.trans w) (by decide), fun w => absurd (h.symm.trans w) (by decide), fun w => absurd (h.symm.trans w) (by decide), fun w => absurd (h.symm.trans w) (by decide), fun w => absurd (h.symm.trans w) (by decide), fun w => absurd (h.symm.trans w) (by decide), fun w => absurd (h.symm.trans w) (by decide), fun w => absurd (h.symm.trans w) (by decide), fun w => absurd (h.symm.trans w) (by decide), fun w => ⟨h0, a2, by omega, by omega, h0, ?_⟩, fun w => absurd (h.symm.trans w) (by decide), fun w => absurd (h.symm.trans w) (by decide), fun w => absurd (h.symm.trans w) (by decide), fun w => absurd (h.symm.trans w) (by decide), fun w => absurd (h.symm.trans w) (by decide), fun w => absurd (h.symm.trans w) (by decide), trivial⟩
      have hev := ev_case (env := x_env sl l) (f := f) h
      obtain ⟨a, ea, hae⟩ := ha.nat
      obtain ⟨b, eb, hbe⟩ := hb.nat
      obtain ⟨g, eg, hge⟩ := hc.nat
      rw [ea, eb, eg, Int.toNat_natCast, Int.toNat_natCast, Int.toNat_natCast] at hev
      rw [ea, Int.toNat_natCast] at hta
      rw [eb, Int.toNat_natCast] at htb
      rw [eg, Int.toNat_natCast] at htc
      rw [v2, ea]
      refine ih a ta (D' + 1) c1 _ hta (by omega) (by omega) K1 R1 (fun c2 s2 n2 => ?_)
      have K2 := K1.sm s2
      have R2 := R1.x_w s2
      obtain ⟨-, -, w3, w4, -⟩ := K2.2.2 e he
      have other : ev T (x_env sl l) f a ≠ some 1 → cw (D' + 2) 122 (am_blk 122 22) [ad, (e : Int), r, x_act T e, 0, 0, 0, 0, 0, rw_ov (ev T (x_env sl l) f a), 0] [ad] c2 Q := by
        intro p
        rw [if_neg p] at hev
        refine u122_22 ⟨K2.1.1, K2.1.2.2.2.2.1.1, by omega, by rw [K2.1.2.2.2.2.1.2]; omega, u122_23 ⟨K2.1.1, ?_⟩⟩
        rw [w4, eg]
        refine ih g tc (D' + 1) c2 _ htc (by omega) (by omega) K2 R2 (fun c3 s3 n3 => ?_)
        rw [← hev] at n3 ⊢
        exact kk c3 ((s1.tr s2).tr s3) n3
      rw [n2]
      refine ⟨K2.1.1, fun q => other (fun p => by rw [p] at q; exact q rfl), fun q => ⟨fun q2 => other (fun p => by rw [p] at q2; exact q2 rfl), fun q2 => ⟨K2.1.1, K2.1.2.2.2.1.1, by omega, by rw [K2.1.2.2.2.1.2]; omega, u122_23 ⟨K2.1.1, ?_⟩⟩⟩⟩
      have p : ev T (x_env sl l) f a = some 1 := by
        have e8 := (lc_iff _ _).1.mp (Classical.not_not.mp q2)
        cases hv : ev T (x_env sl l) f a with
        | none => rw [hv] at q; exact absurd (by simp [x_nl]) q
        | some z => rw [hv] at e8; exact congrArg some e8
      rw [if_pos p] at hev
      rw [w3, eb]
      refine ih b tb (D' + 1) c2 _ htb (by omega) (by omega) K2 R2 (fun c3 s3 n3 => ?_)
      rw [← hev] at n3 ⊢
      exact kk c3 ((s1.tr s2).tr s3) n3
end
