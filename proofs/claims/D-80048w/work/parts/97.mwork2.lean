set_option maxRecDepth 100000
/-! the model: selects are worked -/
section
variable {s : ms_S} {T : xt} {sl ct : Nat → Int} {NE : Nat} {X : nt} {P : mPt} {P0 : mPs} {D0 sel : Nat}
theorem k_isGrouped {s1 : ms_S} {d : Nat} {Q : Int → ms_S → Prop} (hs : sel < 60) (kk : Q (if s1 40 sel = -1 ∧ s1 42 sel ≤ 0 then 0 else 1) s1) : md_isGrouped d sel s1 Q := by
  refine w172_e ⟨by omega, by omega, fun c => w172_1 (w172_3 ?_), fun c => ⟨by omega, by omega, fun c2 => w172_3 ?_, fun c2 => w172_1 (w172_3 ?_)⟩⟩
  · rw [if_neg (fun h => c h.1)] at kk; exact kk
  · rw [if_pos ⟨Classical.not_not.mp c, c2⟩] at kk; exact kk
  · rw [if_neg (fun h => c2 h.2)] at kk; exact kk
/-- what has to be known of all of it -/
def mX (s : ms_S) (T : xt) (sl _ct : Nat → Int) (NE : Nat) (_X : nt) : Prop := mt s T sl NE ∧ ms_ok s ∧ nW_ok (fun st => (s 5 st).toNat) (ms_W s)
theorem mX.hT (h : mX s T sl ct NE X) : mt s T sl NE := h.1
theorem mX.hok (h : mX s T sl ct NE X) : ms_ok s := h.2.1
theorem mX.hW (h : mX s T sl ct NE X) : nW_ok (fun st => (s 5 st).toNat) (ms_W s) := h.2.2
def mKb (s : ms_S) (T : xt) (sl : Nat → Int) (X : nt) (D0 sel b : Nat) (P : mPs) : Prop := ∀ (f : Nat) (n : Int) (τ : List Int) (N C R : Nat), P f n τ N C R → ∀ (s1 : ms_S) (D : Nat) (Q : Int → ms_S → Prop), mZ s s1 → s1 91 0 + R < 400 → s1 87 0 + C ≤ 400000 → D0 ≤ D → (∀ r' s' x3 x4, mQ s1 s' r' τ.length (NL T sl X (ms_W s) f n) C R → mw D 153 (am_blk 153 b) [159, sel, r', x3, x4] [] s' Q) → md_workSelect D sel s1 Q
theorem j_len {on : rwt → Bool} {isL : Bool} {w2 : Nat} {L M : List rwt} {Nl Nr : Nat} (hl : L.length ≤ Nl) (hr : M.length ≤ Nr) (h1 : 1 ≤ Nr) : ∀ i, i < L.length → (j_rows on isL w2 (L.take i) M).length + M.length + 1 ≤ Nl * Nr + 1 := by
  intro i hi
  have h2 := j_rows_len (on := on) (isL := isL) (w := w2) (L := L.take i) (R := M) (Nl := i) (by rw [List.length_take]; omega) hr h1
  have h3 : (i + 1) * Nr ≤ Nl * Nr := Nat.mul_le_mul_right _ (by omega)
  rw [Nat.add_mul, Nat.one_mul] at h3
  omega
theorem mj.work (hX : mX s T sl ct NE X) (h250 : 265 ≤ D0) (hs : sel < 60) (hs3 : s 37 sel ≤ 3) (hv : ∀ q, mV s T sl ct NE X (P q)) (ho : ∀ o : Nat, mK s T sl X D0 (fun D s1 Q => md_workSource D o s1 Q) (mo s T sl ct NE X P o)) : ∀ (k : Nat), (k : Int) < s 37 sel → ∀ (f : Nat) (n : Int) (τ : List Int) (N C R : Nat), mj s T sl ct NE X P sel k f n τ N C R → ∀ (s1 : ms_S) (D : Nat) (Q : Int → ms_S → Prop), mZ s s1 → s1 91 0 + R < 400 → s1 87 0 + C ≤ 400000 → D0 ≤ D → (∀ r' s' x4, mQ s1 s' r' τ.length (NL T sl X (ms_W s) f n) C R → mw (D + 1) 153 (am_blk 153 1) [159, sel, r', ((k + 1 : Nat) : Int), x4] [] s' Q) → md_workSelect (D + 1) sel s1 Q := by
  intro k
  induction k with
  | zero =>
    intro hk f n τ N C R hm s1 D Q hz hR hU hD kk
    refine w153_e ?_
    have e1 : am_w (3 * (sel : Int)) = ((3 * sel : Nat) : Int) := by rw [am_w_in (by omega) (by omega)]; omega
    rw [e1]
    exact ho (3 * sel) f n τ N C R hm s1 D _ hz hR hU hD (fun r' s' hq => kk r' s' 0 hq)
  | succ k ih =>
    intro hk f n τ N C R hm s1 D Q hz hR hU hD kk
    obtain ⟨f', τl, τr, Nl, Nr, Cl, Cr, Rl, Rr, e, rfl, hkd, hl, hr, rfl, rfl, hon, hcond, hxc, hlf, hwd, hnv, rfl, rfl⟩ := hm
    have vl := mj.v hv sel k f' _ _ _ _ _ hl
    have vr := mo.v hv _ f' _ _ _ _ _ hr
    have hzz := hz.2
    refine ih (by omega) f' _ τl Nl Cl Rl hl s1 D Q hz (by omega) (by omega) hD (fun r' s2 x4 hq => ?_)
    have hz2 := hq.z hz
    have hzz2 := hz2.2
    have e37 : s2 37 sel = s 37 sel := hz2.1 _ _ (by omega)
    refine w153_1 ⟨by omega, by omega, fun c => absurd c (by omega), fun _ => ?_⟩
    have e1 : am_w (3 * (sel : Int)) = 3 * sel := am_w_in (by omega) (by omega)
    have e2 : am_w (3 * (sel : Int) + ((k + 1 : Nat) : Int)) = ((3 * sel + (k + 1) : Nat) : Int) := by rw [am_w_in (by omega) (by omega)]; omega
    rw [e1, e2]
    refine ho _ f' _ τr Nr Cr Rr hr s2 D _ hz2 ?_ ?_ hD (fun r2 s3 hq3 s4 e4 => ?_)
    · have := hq.2.2.2.2.2.2; omega
    · have := hq.2.2.2.2.1; omega
    · rw [ms_u_id hq3.2.2.1] at e4
      subst e4
      have hz3 := hq3.z hz2
      have hRl := hq3.old hq.1
      have hTo : mt s4 T sl NE := hX.hT.ex hz3.1
      obtain ⟨ll, lg⟩ := NL_nv hX.hT.2.1 hX.hW vl
      obtain ⟨rl, rr⟩ := NL_nv hX.hT.2.1 hX.hW vr
      obtain ⟨heN, t, hwt, ht1⟩ := hxc
      have h24 := hnv.1.1
      have h1N := hnv.1.2.1
      have hN6 := hnv.2.2
      have p1 : 1 ≤ Nl := by
        cases Nl with
        | zero => simp at h1N
        | succ k => omega
      have p2 : 1 ≤ Nr := by
        cases Nr with
        | zero => simp at h1N
        | succ k => omega
      have q2 : Nr ≤ Nl * Nr := Nat.le_mul_of_pos_left _ p1
      rw [List.length_append] at h24
      obtain ⟨a1, a2, a3, a4, a5, a6, a7⟩ := hq
      obtain ⟨b1, b2, b3, b4, b5, b6, b7⟩ := hq3
      have so : ((3 * sel + (k + 1) : Nat)) < 180 := by omega
      obtain ⟨D, rfl⟩ : ∃ D', D = D' + 1 := ⟨D - 1, by omega⟩
      refine k_mjoin (τ := τl) (τ2 := τr) (isL := decide (n_isL X n ≠ 0)) (N := Nl * Nr + 1) hTo b3 hRl b1 lg rr h24 rfl hnv.2.1 so (by rw [hz3.1 _ _ (by omega)]; exact hon) (by rw [hz3.1 _ _ (by omega)]; exact hlf) heN hwt ht1 (j_len ll rl p2) (by omega) (by omega) (by omega) (by omega) (by omega) (fun r5 s5 hq5 _ => ?_)
      rw [am_w_s (by omega)]
      refine kk r5 s5 r2 ?_
      have hq1 : mQ s1 s2 r' τl.length (NL T sl X (ms_W s) f' (n_left X n)) Cl Rl := ⟨a1, a2, a3, a4, a5, a6, a7⟩
      have hq3 : mQ s2 s4 r2 τr.length (NL T sl X (ms_W s) f' (n_right X n)) Cr Rr := ⟨b1, b2, b3, b4, b5, b6, b7⟩
      have := (hq1.tr hq3).tr hq5
      rw [NL_1 hkd, List.length_append]
      have ec : (n_cond X n).toNat = e := by omega
      have ew : (n_wide X n).toNat = τr.length := by omega
      rw [ec, ew]
      exact this
theorem mf.where (hX : mX s T sl ct NE X) (h250 : 265 ≤ D0) (hs : sel < 60) (hs1 : 1 ≤ s 37 sel) (hs3 : s 37 sel ≤ 3) (hv : ∀ q, mV s T sl ct NE X (P q)) (ho : ∀ o : Nat, mK s T sl X D0 (fun D s1 Q => md_workSource D o s1 Q) (mo s T sl ct NE X P o)) : mKb s T sl X (D0 + 1) sel 3 (mf s T sl ct NE X (mj s T sl ct NE X P sel (s 37 sel - 1).toNat) (s 38 sel)) := by
  intro f n τ N C R hm s1 D Q hz hR hU hD kk
  obtain ⟨D, rfl⟩ : ∃ D', D = D' + 1 := ⟨D - 1, by omega⟩
  have hk : (((s 37 sel - 1).toNat : Nat) : Int) < s 37 sel := by omega
  have hk2 : ((((s 37 sel - 1).toNat + 1 : Nat)) : Int) = s 37 sel := by omega
  have hzz := hz.2
  rcases hm with ⟨h38, hj⟩ | ⟨f', C', R', e', h38, rfl, hkd, hcond, hxc, hj, hnv, rfl, rfl⟩
  · refine mj.work hX h250 hs hs3 hv ho _ hk f n τ N C R hj s1 D Q hz hR hU (by omega) (fun r' s2 x4 hq => ?_)
    have hz2 := hq.z hz
    rw [hk2]
    refine w153_1 ⟨by omega, by omega, fun _ s3 e3 => ⟨by omega, by omega, fun _ => ?_, fun c => ?_⟩, fun c => absurd (by rw [hz2.1 _ _ (by omega)]; exact Int.le_refl _) c⟩
    · rw [ms_u_id hq.2.2.1] at e3; subst e3; exact kk r' s3 _ _ hq
    · rw [ms_u_id hq.2.2.1] at e3; subst e3
      rw [hz2.1 _ _ (by omega)] at c; exact absurd h38 c
  · refine mj.work hX h250 hs hs3 hv ho _ hk f' _ τ N C' R' hj s1 D Q hz (by omega) (by omega) (by omega) (fun r' s2 x4 hq => ?_)
    have hz2 := hq.z hz
    have vj := mj.v hv sel _ f' _ _ _ _ _ hj
    obtain ⟨ll, lg⟩ := NL_nv hX.hT.2.1 hX.hW vj
    obtain ⟨heN, t, hwt, ht1⟩ := hxc
    rw [hk2]
    refine w153_1 ⟨by omega, by omega, fun _ s3 e3 => ⟨by omega, by omega, fun c => ?_, fun c => ⟨by omega, by omega, ?_⟩⟩, fun c => absurd (by rw [hz2.1 _ _ (by omega)]; exact Int.le_refl _) c⟩
    · rw [ms_u_id hq.2.2.1] at e3; subst e3
      rw [hz2.1 _ _ (by omega)] at c; omega
    · rw [ms_u_id hq.2.2.1] at e3; subst e3
      have hmu := mul_le_of (w := τ.length) ll
      obtain ⟨a1, a2, a3, a4, a5, a6, a7⟩ := hq
      have hq : mQ s1 s3 r' τ.length (NL T sl X (ms_W s) f' (n_left X n)) C' R' := ⟨a1, a2, a3, a4, a5, a6, a7⟩
      obtain ⟨D, rfl⟩ : ∃ D', D = D' + 1 := ⟨D - 1, by omega⟩
      refine k_mfilter (τ := τ) (e := e') (hX.hT.ex hz2.1) a3 a1 lg vj.2.1 heN (by rw [hz2.1 _ _ (by omega)]; exact h38) hwt ht1 (by omega) (by omega) (by omega) (fun r5 s5 hq5 => kk r5 s5 _ _ ?_)
      have ec : (n_cond X n).toNat = e' := by omega
      rw [NL_2 hkd, ec]
      exact (hq.tr hq5).le (by omega) (by omega)
theorem mpr.work (hX : mX s T sl ct NE X) (h250 : 520 ≤ D0) (hs : sel < 60) (hv : mV s T sl ct NE X P0) (hw : mKb s T sl X D0 sel 3 P0) : ∀ (f : Nat) (n : Int) (τ : List Int) (N C R : Nat), mpr s T sl ct NE X P0 sel f n τ N C R → ∀ (s1 : ms_S) (D : Nat) (Q : Int → ms_S → Prop), mZ s s1 → s1 91 0 + R < 400 → s1 87 0 + C ≤ 400000 → D0 ≤ D → (∀ r' s' x2 x3 x4, mQ s1 s' r' τ.length (NL T sl X (ms_W s) f n) C R → mw D 153 (am_blk 153 6) [159, sel, x2, x3, x4] [r'] s' Q) → md_workSelect D sel s1 Q := by
  intro f n τ N C R hm s1 D Q hz hR hU hD kk
  obtain ⟨D, rfl⟩ : ∃ D', D = D' + 2 := ⟨D - 2, by omega⟩
  have hzz := hz.2
  rcases hm with ⟨h40, h42, f', τl, C', R', rfl, hkd, hhv, h8, h36, hit, hes, hτ, hnv, rfl, rfl⟩ | ⟨hgr, f', ng, τl, τg, C', R', hvo, hkd, hcs, hk4, hP, hnvg, hnv, h39, h8, hgi, hge, h40, h36, i8, hit, hie, h41, hhv, hag, hτ, rfl, rfl⟩
  · have vh := mf.v hv (s 41 sel) f' _ _ _ _ _ hhv
    obtain ⟨ll, lg⟩ := NL_nv hX.hT.2.1 hX.hW vh
    have h0 : ∀ s2, mZ s s2 → (s2 40 sel = -1 ∧ s2 42 sel ≤ 0) := fun s2 h => ⟨by rw [h.1 _ _ (by omega)]; exact h40, by rw [h.1 _ _ (by omega)]; exact h42⟩
    have b4 : ∀ (r' : Int) (s2 : ms_S) (x3 x4 : Int), mQ s1 s2 r' τl.length (NL T sl X (ms_W s) f' (n_left X n)) C' R' → mw (D + 2) 153 (am_blk 153 4) [159, sel, r', x3, x4] [] s2 Q := by
      intro r' s2 x3 x4 hq
      have hz2 := hq.z hz
      refine w153_4 (k_isGrouped hs ?_)
      rw [if_pos (h0 s2 hz2)]
      refine ⟨fun _ => ?_, fun c => absurd rfl c⟩
      have hmu := mul_le_of (w := (n_list X n).length) ll
      obtain ⟨a1, a2, a3, a4, a5, a6, a7⟩ := hq
      have hq : mQ s1 s2 r' τl.length (NL T sl X (ms_W s) f' (n_left X n)) C' R' := ⟨a1, a2, a3, a4, a5, a6, a7⟩
      refine k_plain (τ := τl) (ct := ct) (hX.hT.ex hz2.1) a3 a1 lg vh.2.1 hs (by rw [hz2.1 _ _ (by omega)]; exact h36) h8 (fun k e hk => by rw [hz2.1 _ _ (by omega)]; exact hit k e hk) (fun e he => hes e he) (by omega) (by omega) (by omega) (fun r5 s5 hq5 => kk r5 s5 _ _ _ ?_)
      rw [NL_3 hkd, hτ]
      exact (hq.tr hq5).le (by omega) (by omega)
    rcases hhv with ⟨hn, hP⟩ | ⟨f2, C2, R2, e', h41, rfl, hk2, hcond, hxc, hP, hnv2, rfl, rfl⟩
    · refine hw f' _ τl N C' R' hP s1 (D + 2) Q hz (by omega) (by omega) (by omega) (fun r' s2 x3 x4 hq => ?_)
      have hz2 := hq.z hz
      refine w153_3 (k_isGrouped hs ?_)
      rw [if_pos (h0 s2 hz2)]
      refine ⟨fun c => absurd rfl c, fun _ => ⟨by omega, by omega, fun _ => b4 r' s2 _ _ hq, fun c => ?_⟩⟩
      rw [hz2.1 _ _ (by omega)] at c; exact absurd hn c
    · have vp := hv f2 _ _ _ _ _ hP
      obtain ⟨ll2, lg2⟩ := NL_nv hX.hT.2.1 hX.hW vp
      obtain ⟨heN, t, hwt, ht1⟩ := hxc
      refine hw f2 _ τl N C2 R2 hP s1 (D + 2) Q hz (by omega) (by omega) (by omega) (fun r' s2 x3 x4 hq => ?_)
      have hz2 := hq.z hz
      refine w153_3 (k_isGrouped hs ?_)
      rw [if_pos (h0 s2 hz2)]
      refine ⟨fun c => absurd rfl c, fun _ => ⟨by omega, by omega, fun c => ?_, fun c => ⟨by omega, by omega, ?_⟩⟩⟩
      · rw [hz2.1 _ _ (by omega)] at c; omega
      · have hmu := mul_le_of (w := τl.length) ll2
        obtain ⟨a1, a2, a3, a4, a5, a6, a7⟩ := hq
        have hq : mQ s1 s2 r' τl.length (NL T sl X (ms_W s) f2 (n_left X (n_left X n))) C2 R2 := ⟨a1, a2, a3, a4, a5, a6, a7⟩
        refine k_mfilter (τ := τl) (e := e') (hX.hT.ex hz2.1) a3 a1 lg2 vp.2.1 heN (by rw [hz2.1 _ _ (by omega)]; exact h41) hwt ht1 (by omega) (by omega) (by omega) (fun r5 s5 hq5 => b4 r5 s5 _ _ ?_)
        have ec : (n_cond X (n_left X n)).toNat = e' := by omega
        rw [NL_2 hk2, ec]
        exact (hq.tr hq5).le (by omega) (by omega)
  · have vp := hv f' _ _ _ _ _ hP
    obtain ⟨ll, lg⟩ := NL_nv hX.hT.2.1 hX.hW vp
    obtain ⟨gl, gg⟩ := NL_nv hX.hT.2.1 hX.hW hnvg
    have hN6 := hnv.2.2
    have h0 : ∀ s2, mZ s s2 → ¬ (s2 40 sel = -1 ∧ s2 42 sel ≤ 0) := fun s2 h => by rw [h.1 _ _ (by omega), h.1 _ _ (by omega)]; exact hgr
    rw [NL_4 hk4] at gg
    refine hw f' _ τl N C' R' hP s1 (D + 2) Q hz (by omega) (by omega) (by omega) (fun r' s2 x3 x4 hq => ?_)
    have hz2 := hq.z hz
    refine w153_3 (k_isGrouped hs ?_)
    rw [if_neg (h0 s2 hz2)]
    refine ⟨fun _ => w153_4 (k_isGrouped hs ?_), fun c => absurd (by decide) c⟩
    rw [if_neg (h0 s2 hz2)]
    refine ⟨fun c => absurd c (by decide), fun _ => ?_⟩
    have hm1 := mul_le_of (w := (n_list X ng).length) (show (NL T sl X (ms_W s) f' (n_left X ng)).length + 1 ≤ N + 1 by omega)
    have hm2 := mul_le_of (w := (n_list X n).length) (show (NL T sl X (ms_W s) f' (n_left X ng)).length + 1 ≤ N + 1 by omega)
    obtain ⟨a1, a2, a3, a4, a5, a6, a7⟩ := hq
    have hq : mQ s1 s2 r' τl.length (NL T sl X (ms_W s) f' (n_left X ng)) C' R' := ⟨a1, a2, a3, a4, a5, a6, a7⟩
    refine k_grouped (τ := τl) (τg := τg) (hv := hvo) (aggs := n_aggs X ng) (ct := ct) (hX.hT.ex hz2.1) a3 a1 lg vp.2.1 (by omega) hs (by rw [hz2.1 _ _ (by omega)]; exact h39) h8 (fun k e hk => by rw [hz2.1 _ _ (by omega)]; exact hgi k e hk) (fun e he => hge e he) (by rw [hz2.1 _ _ (by omega)]; exact h40) (by rw [hz2.1 _ _ (by omega)]; exact h36) i8 (fun k e hk => by rw [hz2.1 _ _ (by omega)]; exact hit k e hk) hie (by rw [hz2.1 _ _ (by omega)]; exact h41) hhv hag hnvg.2.1 gg (by omega) (by omega) (by omega) (fun r5 s5 hq5 => kk r5 s5 _ _ _ ?_)
    have eq2 : NL T sl X (ms_W s) f n = ((g_rows (x_vals T sl (n_list X ng)) (n_list X ng).length (g_af T sl (n_aggs X ng)) (NL T sl X (ms_W s) f' (n_left X ng))).filter (hv_is T sl hvo)).map (x_vals T sl (n_list X n)) := by
      rcases hcs with ⟨rfl, rfl, hl⟩ | ⟨h, rfl, rfl, hk2, hc2, hl⟩
      · rw [NL_3 hkd, hl, NL_4 hk4]
        congr 1
        symm
        exact List.filter_eq_self.mpr (fun x _ => rfl)
      · have ec : (n_cond X (n_left X n)).toNat = h := by omega
        rw [NL_3 hkd, NL_2 hk2, hl, NL_4 hk4, ec]
        rfl
    rw [eq2, hτ]
    exact (hq.tr hq5).le (by omega) (by omega)
theorem msl.work (hX : mX s T sl ct NE X) (h250 : 520 ≤ D0) (hv : ∀ q, mV s T sl ct NE X (P q)) (ho : ∀ o : Nat, mK s T sl X D0 (fun D s1 Q => md_workSource D o s1 Q) (mo s T sl ct NE X P o)) (sel : Nat) : mK s T sl X (D0 + 1) (fun D s1 Q => md_workSelect D sel s1 Q) (msl s T sl ct NE X P sel) := by
  intro f n τ N C R hm s1 D Q hz hR hU hD kk
  obtain ⟨hs, hs1, hs3, hm⟩ := hm
  have hzz := hz.2
  have hw := mf.where hX (by omega) hs hs1 hs3 hv ho
  have vw := mf.v (mj.v hv sel (s 37 sel - 1).toNat) (s 38 sel)
  obtain ⟨D, rfl⟩ : ∃ D', D = D' + 2 := ⟨D - 2, by omega⟩
  rcases hm with ⟨h35, hp⟩ | ⟨h35, f', C', R', rfl, hkd, hp, hnv, rfl, rfl⟩
  · refine mpr.work hX (by omega) hs vw hw f n τ N C R hp s1 (D + 2) Q hz hR hU hD (fun r' s2 x2 x3 x4 hq => ?_)
    have hz2 := hq.z hz
    refine w153_6 ⟨by omega, by omega, fun _ => w153_8 (kk r' s2 hq), fun c => ?_⟩
    rw [hz2.1 _ _ (by omega)] at c; exact absurd h35 c
  · refine mpr.work hX (by omega) hs vw hw f' _ τ N C' R' hp s1 (D + 2) Q hz (by omega) (by omega) hD (fun r' s2 x2 x3 x4 hq => ?_)
    have hz2 := hq.z hz
    have vp := mpr.v sel f' _ _ _ _ _ hp
    obtain ⟨ll, lg⟩ := NL_nv hX.hT.2.1 hX.hW vp
    have hmu := mul_le_of (w := τ.length) ll
    refine w153_6 ⟨by omega, by omega, fun c => ?_, fun c => ?_⟩
    · rw [hz2.1 _ _ (by omega)] at c; exact absurd c h35
    · obtain ⟨a1, a2, a3, a4, a5, a6, a7⟩ := hq
      have hq : mQ s1 s2 r' τ.length (NL T sl X (ms_W s) f' (n_left X n)) C' R' := ⟨a1, a2, a3, a4, a5, a6, a7⟩
      refine k_monce a3 a1 (by omega) (by omega) (by omega) (fun r5 s5 hq5 => w153_8 (kk r5 s5 ?_))
      rw [NL_5 hkd]
      have e5 : s_rows 5 (NL T sl X (ms_W s) f' (n_left X n)) [] = dd (NL T sl X (ms_W s) f' (n_left X n)) := by
        unfold s_rows
        rw [if_neg (by decide), if_neg (by decide), List.append_nil]
      rw [e5]
      exact (hq.tr hq5).le (by omega) (by omega)
theorem mqy.work (hX : mX s T sl ct NE X) (h250 : 520 ≤ D0) (hs : ∀ sel : Nat, mK s T sl X D0 (fun D s1 Q => md_workSelect D sel s1 Q) (msl s T sl ct NE X P sel)) (q : Nat) : mK s T sl X (D0 + 1) (fun D s1 Q => md_workQuery D q s1 Q) (mqy s T sl ct NE X P q) := by
  intro f n τ N C R hm s1 D Q hz hR hU hD kk
  obtain ⟨hq60, hq1, hq5, hm⟩ := hm
  have hzz := hz.2
  obtain ⟨D, rfl⟩ : ∃ D', D = D' + 2 := ⟨D - 2, by omega⟩
  have x1 : am_w (5 * (q : Int)) = 5 * q := am_w_in (by omega) (by omega)
  have chain : ∀ (k : Nat), (k : Int) < s 60 q → ∀ (f : Nat) (n : Int) (τ : List Int) (N C R : Nat), mc s T sl ct NE X P q k f n τ N C R → s1 91 0 + R < 400 → s1 87 0 + C ≤ 400000 → (∀ r' s' x4, mQ s1 s' r' τ.length (NL T sl X (ms_W s) f n) C R → mw (D + 2) 152 (am_blk 152 1) [159, q, r', ((k + 1 : Nat) : Int), x4] [] s' Q) → md_workQuery (D + 2) q s1 Q := by
    intro k
    induction k with
    | zero =>
      intro hk f n τ N C R hc hR hU kk
      obtain ⟨sel, hsel, hm⟩ := hc
      refine w152_e ?_
      rw [x1]
      refine ⟨by omega, by omega, ?_⟩
      rw [hz.1 _ _ (by omega), hsel]
      exact hs sel f n τ N C R hm s1 (D + 1) _ hz hR hU (by omega) (fun r' s' hq => kk r' s' 0 hq)
    | succ k ih =>
      intro hk f n τ N C R hc hR hU kk
      obtain ⟨sel, f', Nl, Nr, Cl, Cr, Rl, Rr, hsel, rfl, hkd, hw1, hw4, hl, hr, hnv, rfl, rfl, hN6⟩ := hc
      have vl := mc.v q k f' _ _ _ _ _ hl
      have vr := msl.v sel f' _ _ _ _ _ hr
      obtain ⟨ll, lg⟩ := NL_nv hX.hT.2.1 hX.hW vl
      obtain ⟨rl, rg2⟩ := NL_nv hX.hT.2.1 hX.hW vr
      refine ih (by omega) f' _ τ Nl Cl Rl hl (by omega) (by omega) (fun r' s2 x4 hq => ?_)
      have hz2 := hq.z hz
      have x2 : am_w (5 * (q : Int) + ((k + 1 : Nat) : Int)) = 5 * q + ((k + 1 : Nat) : Int) := am_w_in (by omega) (by omega)
      refine w152_1 ⟨by omega, by omega, fun c => ?_, fun _ => ?_⟩
      · rw [hz2.1 _ _ (by omega)] at c; omega
      · rw [x1, x2]
        refine ⟨by omega, by omega, ?_⟩
        rw [hz2.1 _ _ (by omega), hsel]
        refine hs sel f' _ τ Nr Cr Rr hr s2 (D + 1) _ hz2 ?_ ?_ (by omega) (fun r2 s3 hq3 => ⟨by omega, by omega, ?_⟩)
        · have := hq.2.2.2.2.2.2; omega
        · have := hq.2.2.2.2.1; omega
        · have hz3 := hq3.z hz2
          rw [hz3.1 _ _ (by omega)]
          have hRl := hq3.old hq.1
          obtain ⟨a1, a2, a3, a4, a5, a6, a7⟩ := hq
          obtain ⟨b1, b2, b3, b4, b5, b6, b7⟩ := hq3
          have hq : mQ s1 s2 r' τ.length (NL T sl X (ms_W s) f' (n_left X n)) Cl Rl := ⟨a1, a2, a3, a4, a5, a6, a7⟩
          have hq3 : mQ s2 s3 r2 τ.length (NL T sl X (ms_W s) f' (n_right X n)) Cr Rr := ⟨b1, b2, b3, b4, b5, b6, b7⟩
          have hmu := mul_le_of (w := τ.length) (show (NL T sl X (ms_W s) f' (n_left X n)).length + (NL T sl X (ms_W s) f' (n_right X n)).length ≤ Nl + Nr by omega)
          refine k_setOf b3 ⟨hw1, hw4⟩ hRl b1 (by omega) (by omega) (by omega) (by omega) (fun r5 s5 hq5 => ?_)
          rw [am_w_s (by omega)]
          refine kk r5 s5 _ ?_
          have en : NL T sl X (ms_W s) (f' + 1) n = s_of (s 62 (5 * q + ((k + 1 : Nat) : Int))) (NL T sl X (ms_W s) f' (n_left X n)) (NL T sl X (ms_W s) f' (n_right X n)) := by
            unfold s_of
            by_cases c : s 62 (5 * q + ((k + 1 : Nat) : Int)) = 1
            · rw [if_pos c, NL_6 (by rw [hkd, c]; rfl)]
            · rw [if_neg c, NL_s (by omega), hkd]
          rw [en]
          exact ((hq.tr hq3).tr hq5).le (by omega) (by omega)
  have hk : (((s 60 q - 1).toNat : Nat) : Int) < s 60 q := by omega
  have hk2 : ((((s 60 q - 1).toNat + 1 : Nat)) : Int) = s 60 q := by omega
  rcases hm with ⟨h65, hc⟩ | ⟨h65, f', C', R', rfl, hkd, hc, h64, h8, hit, hdl, hdn, hlim, hl0, hl1, hes, hnv, rfl, rfl⟩
  · refine chain _ hk f n τ N C R hc hR hU (fun r' s2 x4 hq => ?_)
    have hz2 := hq.z hz
    rw [hk2]
    refine w152_1 ⟨by omega, by omega, fun _ => ⟨by omega, by omega, fun c => ?_, fun _ => w152_4 (kk r' s2 hq)⟩, fun c => ?_⟩
    · rw [hz2.1 _ _ (by omega)] at c; exact absurd h65 c
    · rw [hz2.1 _ _ (by omega)] at c; exact absurd (Int.le_refl _) c
  · refine chain _ hk f' _ τ N C' R' hc (by omega) (by omega) (fun r' s2 x4 hq => ?_)
    have hz2 := hq.z hz
    have vc := mc.v q _ f' _ _ _ _ _ hc
    obtain ⟨ll, lg⟩ := NL_nv hX.hT.2.1 hX.hW vc
    rw [hk2]
    refine w152_1 ⟨by omega, by omega, fun _ => ⟨by omega, by omega, fun c => ?_, fun c => ?_⟩, fun c => ?_⟩
    · obtain ⟨a1, a2, a3, a4, a5, a6, a7⟩ := hq
      have hq : mQ s1 s2 r' τ.length (NL T sl X (ms_W s) f' (n_left X n)) C' R' := ⟨a1, a2, a3, a4, a5, a6, a7⟩
      have hN6 := vc.2.2
      have m1 := mul_le_of (w := (n_list X n).length) ll
      have m2 := mul_le_of (w := τ.length) ll
      refine k_ordered (τ := τ) (es := n_list X n) (dn := n_down X n) (lim := n_most X n) (ct := ct) (hX.hT.ex hz2.1) a3 a1 lg vc.2.1 (by omega) hq60 (by rw [hz2.1 _ _ (by omega)]; exact h64) h8 (fun k e hk => by rw [hz2.1 _ _ (by omega)]; exact hit k e hk) (fun e he => hes e he) hdl (fun k x hk => by rw [hz2.1 _ _ (by omega)]; exact hdn k x hk) (by rw [hz2.1 _ _ (by omega)]; exact hlim) ⟨hl0, hl1⟩ (by omega) (by omega) (by omega) (fun r5 s5 hq5 => w152_4 (kk r5 s5 ?_))
      rw [NL_10 hkd]
      exact (hq.tr hq5).le (by omega) (by omega)
    · rw [hz2.1 _ _ (by omega)] at c; exact absurd h65 (fun h => c h)
    · rw [hz2.1 _ _ (by omega)] at c; exact absurd (Int.le_refl _) c
theorem mq.work (hX : mX s T sl ct NE X) (hs6 : s 4 0 ≤ 6) : ∀ (g q : Nat), mK s T sl X (600 + 3 * g) (fun D s1 Q => md_workQuery D q s1 Q) (fun f n τ N C R => mq s T sl ct NE X g q f n τ N C R) := by
  intro g
  induction g with
  | zero => intro q f n τ N C R h; exact h.elim
  | succ g ih =>
    intro q
    have ho := fun o => mo.work (ct := ct) (NE := NE) hX.hok hs6 (D0 := 600 + 3 * g) (by omega) ih o
    have h2 := fun sel => msl.work hX (D0 := 600 + 3 * g + 1) (by omega) (fun q => mq.v g q) ho sel
    exact mqy.work hX (D0 := 600 + 3 * g + 2) (by omega) h2 q
end
