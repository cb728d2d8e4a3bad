set_option maxRecDepth 1000000
def ty_fall (i : Instr) : Prop := match i with
  | .nop => False
  | .goto _ => False
  | .tableswitch _ _ _ _ => False
  | _ => True
section
variable {L : Int} {X : Int → Int} {h : am_H} {h1 : lm_H} {i : Instr} {r : List Int} {ts tst : List Nat} {als ast : List am_V} {xs st st' : List Int} {y : Nat} {tg : Option Int}
theorem lm_run_nil (f d y : Nat) (ls st : List Int) (h : lm_H) : lm_run f d y [] ls st h = none := by
  cases f <;> rfl
theorem st_ix_up (l : List Int) (c : Int) : st_ix l c ≤ l.length := by
  induction l with
  | nil => show (-1 : Int) ≤ 0; omega
  | cons x r ih =>
    rw [st_ix_c, List.length_cons]
    split
    · omega
    · split <;> omega
theorem st_idx_r32 (s c : Int) : am_r32 (st_idx s c) := by
  have h1 := st_ix_r (am_str (am_si s)) c
  have h2 := st_ix_up (am_str (am_si s)) c
  have h3 := am_strl (am_si s)
  unfold st_idx am_r32
  omega
theorem ty_nr {t : Nat} {v : am_V} {x : Int} (ht : ty_ref t = true) (hv : ty_v h t v x) : x ≠ -3 := by
  unfold ty_ref at ht
  simp only [Bool.or_eq_true, decide_eq_true_eq] at ht
  unfold ty_v at hv
  rcases ht with rfl | ht
  · have := hv.2; omega
  · rw [if_neg (by omega), if_neg (by omega), if_neg (by omega), if_neg (by omega), if_neg (by omega)] at hv
    split at hv
    · have := hv.2; unfold st_is at this; omega
    · split at hv
      · have := hv.2; omega
      · have := hv.2; omega
/-- a typed jump: the same one; a stack as it is then -/
theorem ty_jmp (hs : ty_l h tst ast st) (E : lm_br i r st = some (tg, st')) {q : List Nat} (T : ty_br y i r ts tst = some q) :
    ∃ ast', am_br i r ast = some (tg, ast') ∧ (∀ b, tg = some b → ∃ tq, ty_to y ts tq b = true ∧ ty_l h tq ast' st') ∧ (tg = none → ty_l h q ast' st' ∧ ty_fall i) := by
  unfold ty_br at T
  split at T
  · rename_i b
    split at T
    · rename_i ct
      cases E
      exact ⟨ast, rfl, fun b' hb => by cases hb; exact ⟨tst, ct, hs⟩, fun hb => by cases hb⟩
    · cases T
  · rename_i x b
    split at T
    · rename_i ct
      cases E
      exact ⟨ast, rfl, fun b' hb => by cases hb; exact ⟨tst, ct, hs⟩, fun hb => by cases hb⟩
    · cases T
  · rename_i c x b
    split at T
    · rename_i t q0
      obtain ⟨v, z, vs, zs, rfl, rfl, hv, hs1⟩ := ty_c hs
      split at T
      · rename_i ct
        rw [Bool.and_eq_true] at ct
        cases T
        have ev := ty_v_i ct.1 hv
        subst ev
        cases E
        refine ⟨vs, rfl, fun b' hb => ?_, fun _ => ⟨hs1, trivial⟩⟩
        split at hb
        · cases hb; exact ⟨_, ct.2, hs1⟩
        · cases hb
      · cases T
    · cases T
  · rename_i c x b
    split at T
    · rename_i t u q0
      obtain ⟨v, z, vs1, zs1, rfl, rfl, hv, hs0⟩ := ty_c hs
      obtain ⟨v2, z2, vs, zs, rfl, rfl, hv2, hs1⟩ := ty_c hs0
      split at T
      · rename_i ct
        rw [Bool.and_eq_true, Bool.and_eq_true] at ct
        cases T
        have ev := ty_v_i ct.1.1 hv
        have ev2 := ty_v_i ct.1.2 hv2
        subst ev
        subst ev2
        cases E
        refine ⟨vs, rfl, fun b' hb => ?_, fun _ => ⟨hs1, trivial⟩⟩
        split at hb
        · cases hb; exact ⟨_, ct.2, hs1⟩
        · cases hb
      · cases T
    · cases T
  · rename_i x b
    split at T
    · rename_i t q0
      obtain ⟨v, z, vs, zs, rfl, rfl, hv, hs1⟩ := ty_c hs
      split at T
      · rename_i ct
        rw [Bool.and_eq_true] at ct
        cases T
        have h3 := ty_nr ct.1 hv
        have ev := ty_v_r ct.1 hv
        subst ev
        cases E
        refine ⟨vs, if_neg h3, fun b' hb => ?_, fun _ => ⟨hs1, trivial⟩⟩
        split at hb
        · cases hb; exact ⟨_, ct.2, hs1⟩
        · cases hb
      · cases T
    · cases T
  · rename_i x b
    split at T
    · rename_i t q0
      obtain ⟨v, z, vs, zs, rfl, rfl, hv, hs1⟩ := ty_c hs
      split at T
      · rename_i ct
        rw [Bool.and_eq_true] at ct
        cases T
        have h3 := ty_nr ct.1 hv
        have ev := ty_v_r ct.1 hv
        subst ev
        cases E
        refine ⟨vs, if_neg h3, fun b' hb => ?_, fun _ => ⟨hs1, trivial⟩⟩
        split at hb
        · cases hb
        · cases hb; exact ⟨_, ct.2, hs1⟩
      · cases T
    · cases T
  · rename_i df lo hi os b bs
    split at T
    · rename_i t q0
      obtain ⟨v, z, vs, zs, rfl, rfl, hv, hs1⟩ := ty_c hs
      split at T
      · rename_i ct
        rw [Bool.and_eq_true, Bool.and_eq_true, Bool.and_eq_true, decide_eq_true_eq] at ct
        cases T
        have ev := ty_v_i ct.1.1.1 hv
        subst ev
        cases E
        refine ⟨vs, rfl, fun b' hb => ?_, fun hb => ?_⟩
        · split at hb
          · cases hb; exact ⟨q0, ct.1.1.2, hs1⟩
          · exact ⟨q0, List.all_eq_true.mp ct.1.2 b' (List.mem_of_getElem? hb), hs1⟩
        · exfalso
          split at hb
          · cases hb
          · rename_i cn
            have hlt : (z - lo).toNat < bs.length := by omega
            rw [List.getElem?_eq_getElem hlt] at hb
            cases hb
      · cases T
    · cases T
  · cases T
theorem ty_ck0 {pc : Nat} {l : List am_I} (hk : am_kd i = 0) : ty_ck y ((i, r, pc) :: l) ts tst = (match ty_st i r ts tst with | some (ls', st') => ty_ck y l ls' st' | none => false) := by
  conv => lhs; unfold ty_ck
  rw [hk]
  try rfl
theorem ty_ck1 {pc : Nat} {l : List am_I} (hk : am_kd i = 1) (h : ty_ck y ((i, r, pc) :: l) ts tst = true) : ∃ q, ty_br y i r ts tst = some q ∧ (ty_fall i → ty_ck y l ts q = true) := by
  cases i
  case nop =>
    have h' : (match ty_br y .nop r ts tst with | some _ => true | none => false) = true := h
    split at h'
    · rename_i q e; exact ⟨q, e, fun w => False.elim w⟩
    · cases h'
  case goto x =>
    have h' : (match ty_br y (.goto x) r ts tst with | some _ => true | none => false) = true := h
    split at h'
    · rename_i q e; exact ⟨q, e, fun w => False.elim w⟩
    · cases h'
  case tableswitch a b c e =>
    have h' : (match ty_br y (.tableswitch a b c e) r ts tst with | some _ => true | none => false) = true := h
    split at h'
    · rename_i q e; exact ⟨q, e, fun w => False.elim w⟩
    · cases h'
  case ifCond a b =>
    have h' : (match ty_br y (.ifCond a b) r ts tst with | some q => ty_ck y l ts q | none => false) = true := h
    split at h'
    · rename_i q e; exact ⟨q, e, fun _ => h'⟩
    · cases h'
  case if_icmp a b =>
    have h' : (match ty_br y (.if_icmp a b) r ts tst with | some q => ty_ck y l ts q | none => false) = true := h
    split at h'
    · rename_i q e; exact ⟨q, e, fun _ => h'⟩
    · cases h'
  case ifnull a =>
    have h' : (match ty_br y (.ifnull a) r ts tst with | some q => ty_ck y l ts q | none => false) = true := h
    split at h'
    · rename_i q e; exact ⟨q, e, fun _ => h'⟩
    · cases h'
  case ifnonnull a =>
    have h' : (match ty_br y (.ifnonnull a) r ts tst with | some q => ty_ck y l ts q | none => false) = true := h
    split at h'
    · rename_i q e; exact ⟨q, e, fun _ => h'⟩
    · cases h'
  all_goals cases hk
theorem ty_ck3 {pc : Nat} {l : List am_I} (hk : am_kd i = 3) : ty_ck y ((i, r, pc) :: l) ts tst = (match ty_call r tst with | some q => ty_ck y l ts q | none => false) := by
  conv => lhs; unfold ty_ck
  rw [hk]
  try rfl
theorem lm_all (hL : 0 ≤ L) (hL2 : L ≤ 1000000) (hX : ∀ i, am_r32 (X i)) (hO : ∀ y, y < 310 → am_okM y = true) : ∀ f, lm_ok L X f := by
  intro f
  induction f with
  | zero => intro d y l ts tst als ast xs st h v h1 hr; cases hr
  | succ f IH =>
    intro d y l ts tst als ast xs st h v h1 hr hy hok hck hl hs H hh hla hls hlen
    cases l with
    | nil => cases hr
    | cons c0 l' =>
      obtain ⟨i, r, pc0⟩ := c0
      obtain ⟨hoI, hoL⟩ := am_okL_c hok
      unfold lm_run at hr
      dsimp only at hr
      split at hr
      · rename_i hk
        rw [ty_ck0 hk] at hck
        split at hr
        · rename_i xs' st' h' E
          split at hck
          · rename_i ts' tst' T
            cases l' with
            | nil => rw [lm_run_nil] at hr; cases hr
            | cons c1 l'' =>
              obtain ⟨i1, r1, pc1⟩ := c1
              obtain ⟨als', ast', h2, e1, e2, e3, e4, e5⟩ := ty_step H hh hl hs hls E T
              obtain ⟨s1, s2, s3, s4, s5⟩ := am_step_ok hL hL2 hX hoI H hla hls e1
              rw [e2] at hr
              obtain ⟨w, h3, k1, k2, k3, k4, k5, k6⟩ := IH d y _ ts' tst' als' ast' xs' st' h2 v h1 hr hy hoL hck e3 e4 s1 e5 s3 s4 (s5.trans hlen)
              exact ⟨w, h3, am_ev.sp hk e1 k1, k2, k3, k4, s2.tr k5, k6⟩
          · cases hck
        · cases hr
      · rename_i hk
        obtain ⟨q, T, hfall⟩ := ty_ck1 hk hck
        split at hr
        · rename_i b st' E
          obtain ⟨ast', e1, e2, -⟩ := ty_jmp (h := h) hs E T
          obtain ⟨tq, e3, e4⟩ := e2 b rfl
          obtain ⟨ts', tst', g1, g2, g3⟩ := ty_jump hy e3 hl e4
          obtain ⟨w, h3, k1, k2, k3, k4, k5, k6⟩ := IH d y _ ts' tst' als ast' xs st' h v h1 hr hy (am_blk_ok (hO y hy.1) _) g1 g2 g3 H hh hla (am_br_ok hls e1) hlen
          exact ⟨w, h3, am_ev.jm hk e1 k1, k2, k3, k4, k5, k6⟩
        · rename_i st' E
          obtain ⟨ast', e1, -, e2⟩ := ty_jmp (h := h) hs E T
          obtain ⟨e3, e4⟩ := e2 rfl
          have hck2 : ty_ck y l' ts q = true := hfall e4
          obtain ⟨w, h3, k1, k2, k3, k4, k5, k6⟩ := IH d y _ ts q als ast' xs st' h v h1 hr hy hoL hck2 hl e3 H hh hla (am_br_ok hls e1) hlen
          exact ⟨w, h3, am_ev.go hk e1 k1, k2, k3, k4, k5, k6⟩
        · cases hr
      · rename_i hk
        unfold lm_ret at hr
        split at hr
        · cases hr
          cases tst with
          | nil =>
            cases ast with
            | nil =>
              have hc : decide (am_rt y = 6) = true := hck
              exact ⟨none, h, am_ev.rt rfl (if_pos (of_decide_eq_true hc)), rfl, H, hh, am_mn.rf _, Or.inl ⟨of_decide_eq_true hc, rfl⟩⟩
            | cons v0 vs => cases hs
          | cons t q => cases ast <;> cases hs
        · rename_i x
          cases hr
          cases tst with
          | nil => cases ast <;> cases hs
          | cons t q =>
            obtain ⟨v0, z, vs, zs, rfl, e2, hv, hs1⟩ := ty_c hs
            cases e2
            cases q with
            | cons t2 q2 => cases vs <;> cases hs1
            | nil =>
              have evs : vs = [] := by cases vs with | nil => rfl | cons a b => cases hs1
              subst evs
              have hc : (ty_le t (ty_rt y) && (decide (am_rt y = 0) && decide (ty_rt y = 0) || decide (am_rt y = 1) && decide (ty_rt y = 4))) = true := hck
              rw [Bool.and_eq_true, Bool.or_eq_true, Bool.and_eq_true, Bool.and_eq_true, decide_eq_true_eq, decide_eq_true_eq, decide_eq_true_eq, decide_eq_true_eq] at hc
              have hv2 := ty_le_v hc.1 hv
              rcases hc.2 with ⟨c1, c2⟩ | ⟨c1, c2⟩
              · rw [c2] at hv2
                have ev := ty_v_0 hv2
                subst ev
                exact ⟨_, h, am_ev.rt rfl (if_pos (Or.inl c1)), rfl, H, hh, am_mn.rf _, Or.inr ⟨by omega, _, rfl, by rw [c2]; exact hv2, (am_lok_t hls).1⟩⟩
              · rw [c2] at hv2
                obtain ⟨ev, hz⟩ := ty_v_z hv2
                subst ev
                exact ⟨_, h, am_ev.rt rfl (if_pos (Or.inr (Or.inl ⟨c1, hz⟩))), rfl, H, hh, am_mn.rf _, Or.inr ⟨by omega, _, rfl, by rw [c2]; exact hv2, (am_lok_t hls).1⟩⟩
        · rename_i x
          cases hr
          cases tst with
          | nil => cases ast <;> cases hs
          | cons t q =>
            obtain ⟨v0, z, vs, zs, rfl, e2, hv, hs1⟩ := ty_c hs
            cases e2
            cases q with
            | cons t2 q2 => cases vs <;> cases hs1
            | nil =>
              have evs : vs = [] := by cases vs with | nil => rfl | cons a b => cases hs1
              subst evs
              have hc : (decide (t = 1) && decide (am_rt y = 4) && decide (ty_rt y = 1)) = true := hck
              rw [Bool.and_eq_true, Bool.and_eq_true, decide_eq_true_eq, decide_eq_true_eq, decide_eq_true_eq] at hc
              obtain ⟨⟨c0, c1⟩, c2⟩ := hc
              rw [c0] at hv
              have ev := ty_v_l hv
              subst ev
              exact ⟨_, h, am_ev.rt rfl (if_pos c1), rfl, H, hh, am_mn.rf _, Or.inr ⟨by omega, _, rfl, by rw [c2]; exact hv, (am_lok_t hls).1⟩⟩
        · rename_i x
          cases hr
          cases tst with
          | nil => cases ast <;> cases hs
          | cons t q =>
            obtain ⟨v0, z, vs, zs, rfl, e2, hv, hs1⟩ := ty_c hs
            cases e2
            cases q with
            | cons t2 q2 => cases vs <;> cases hs1
            | nil =>
              have evs : vs = [] := by cases vs with | nil => rfl | cons a b => cases hs1
              subst evs
              have hc : (ty_ref t && ty_le t (ty_rt y) && decide (am_rt y = 5) && decide (10 ≤ ty_rt y) && decide (ty_rt y ≤ 33)) = true := hck
              rw [Bool.and_eq_true, Bool.and_eq_true, Bool.and_eq_true, Bool.and_eq_true, decide_eq_true_eq, decide_eq_true_eq, decide_eq_true_eq] at hc
              obtain ⟨⟨⟨⟨c0, c1⟩, c2⟩, c3⟩, c4⟩ := hc
              have hv2 := ty_le_v c1 hv
              obtain ⟨ev, hz⟩ := ty_v_k c3 c4 hv2
              subst ev
              exact ⟨_, h, am_ev.rt rfl (if_pos ⟨c2, by omega⟩), rfl, H, hh, am_mn.rf _, Or.inr ⟨by omega, _, rfl, hv2, (am_lok_t hls).1⟩⟩
        · cases hr
      · rename_i k0 k1 k2
        have hk : am_kd i = 3 := am_kd3 k0 k1 k2
        rw [ty_ck3 hk] at hck
        split at hr
        · rename_i d' kd y' n
          split at hck
          · rename_i tq T
            unfold ty_call at T
            dsimp only at T
            split at hr
            · rename_i ck6
              rw [if_pos ck6] at T
              split at hr
              · rename_i a q
                split at hr
                · rename_i hg
                  split at T
                  · rename_i t q0
                    obtain ⟨va, a', vs, zs, rfl, e2, ha, hs1⟩ := ty_c hs
                    cases e2
                    split at T
                    · rename_i ct
                      rw [Bool.and_eq_true, Bool.and_eq_true, decide_eq_true_eq, decide_eq_true_eq, decide_eq_true_eq] at ct
                      cases T
                      obtain ⟨ea, a0, ka⟩ := ty_good H (by omega) (by omega) ha hg
                      subst ea
                      obtain ⟨w, h3, g1, g2, g3, g4, g5, g6⟩ := IH (d' + 1) y _ ts _ als vs xs _ h v h1 hr hy hoL hck hl hs1 H hh hla (am_lok_t hls).2 hlen
                      refine ⟨w, h3, ?_, g2, g3, g4, g5, g6⟩
                      obtain ⟨g, hg2⟩ := g1
                      refine ⟨g + 1, ?_⟩
                      unfold am_run
                      dsimp only
                      rw [hk]
                      show (if kd = 6 then (if 0 ≤ a ∧ am_k h a ≤ 10 ∧ 0 ≤ am_k h a ∧ am_cats vs ≤ 8 then _ else _) else _) = _
                      have hcat := (ty_l_cats hs1).1
                      rw [if_pos ck6, if_pos ⟨a0, by omega, by omega, by omega⟩]
                      exact hg2
                    · cases T
                  · cases T
                · cases hr
              · cases hr
            · rename_i ck6
              rw [if_neg ck6] at T
              split at hr
              · rename_i ck7
                rw [if_pos ck7] at T
                split at hr
                · rename_i q h' E
                  unfold lm_cp at E
                  split at E
                  · rename_i n' dp tt sp ss q'
                    split at E
                    · rename_i cv
                      cases E
                      split at T
                      · rename_i tn tdp t tsp ts0 q0
                        obtain ⟨v1, z1, vs1, zs1, rfl, e2, a1, hs1⟩ := ty_c hs
                        cases e2
                        obtain ⟨v2, z2, vs2, zs2, rfl, e2, a2, hs2⟩ := ty_c hs1
                        cases e2
                        obtain ⟨v3, z3, vs3, zs3, rfl, e2, a3, hs3⟩ := ty_c hs2
                        cases e2
                        obtain ⟨v4, z4, vs4, zs4, rfl, e2, a4, hs4⟩ := ty_c hs3
                        cases e2
                        obtain ⟨v5, z5, vs5, zs5, rfl, e2, a5, hs5⟩ := ty_c hs4
                        cases e2
                        split at T
                        · rename_i ct
                          simp only [Bool.and_eq_true, decide_eq_true_eq] at ct
                          obtain ⟨⟨⟨⟨⟨⟨c1, c2⟩, c3⟩, c4⟩, c5⟩, c6⟩, c7⟩ := ct
                          cases T
                          subst c4
                          obtain ⟨u1, u2, u3, u4, u5⟩ := cv
                          have f1 := ty_v_i c1 a1
                          have f2 := ty_v_i c2 a2
                          have f4 := ty_v_i c3 a4
                          obtain ⟨f3, b0, kb⟩ := ty_good H (by omega) (by omega) a3 (by omega)
                          obtain ⟨f5, b1, kc⟩ := ty_good H (by omega) (by omega) a5 (by omega)
                          subst f1
                          subst f2
                          subst f3
                          subst f4
                          subst f5
                          rw [ty_alen b1 (by omega)] at u4
                          rw [ty_alen b0 (by omega)] at u5
                          obtain ⟨g1, g2⟩ := am_cpy_ok (dp := dp) H b0 b1 (by omega) (by omega) (by omega) u2 u4
                          rw [lm_of_cpy] at hr
                          have hls5 := (am_lok_t (am_lok_t (am_lok_t (am_lok_t (am_lok_t hls).2).2).2).2).2
                          obtain ⟨w, h3, g1', g2', g3', g4', g5', g6'⟩ := IH (d' + 1) y _ ts _ als vs5 xs _ _ v h1 hr hy hoL hck (ty_l_mono H g2 hl) (ty_l_mono H g2 hs5) g1 (ty_h_cpy hh (by omega)) (hla.mono g2.1) (hls5.mono g2.1) hlen
                          refine ⟨w, h3, ?_, g2', g3', g4', g2.tr g5', g6'⟩
                          obtain ⟨g, hg2⟩ := g1'
                          refine ⟨g + 1, ?_⟩
                          have hcat := (ty_l_cats hs5).1
                          have ec : am_copies h ((0, n') :: (0, dp) :: (2, tt) :: (0, sp) :: (2, ss) :: vs5) = some (vs5, am_cpy h ss sp tt dp n') := if_pos ⟨b1, b0, by omega, by omega, by omega, u1, u2, u3, u4, u5, by omega⟩
                          unfold am_run
                          dsimp only
                          rw [hk]
                          show (if kd = 6 then _ else if kd = 7 then (match am_copies h ((0, n') :: (0, dp) :: (2, tt) :: (0, sp) :: (2, ss) :: vs5) with | some (q, h') => _ | none => _) else _) = _
                          rw [if_neg ck6, if_pos ck7, ec]
                          exact hg2
                        · cases T
                      · cases T
                    · cases E
                  · cases E
                · cases hr
              · rename_i ck7
                rw [if_neg ck7] at T
                obtain ⟨hsT, hsD⟩ := ty_l_take n.toNat hs
                obtain ⟨hlT, hlD⟩ := am_lok_take hls n.toNat
                split at hr
                · rename_i cp
                  rw [if_pos cp] at T
                  by_cases ct : (ty_les (tst.take n.toNat) (if y' = 292 then [110] else [0, 110]) && decide (kd = 0) && decide (ty_cats (tst.drop n.toNat) ≤ 8) && (decide (y' = 292) || decide (y' = 295) || decide (y' = 289))) = true
                  · rw [if_pos ct] at T
                    rw [Bool.and_eq_true, Bool.and_eq_true, Bool.and_eq_true, Bool.or_eq_true, Bool.or_eq_true, decide_eq_true_eq, decide_eq_true_eq, decide_eq_true_eq, decide_eq_true_eq, decide_eq_true_eq] at ct
                    obtain ⟨⟨⟨c1, c2⟩, c3⟩, c4⟩ := ct
                    cases T
                    split at hr
                    · rename_i pv E
                      have hcat := (ty_l_cats hsD).1
                      have key : am_ev (d' + 4) y'.toNat (am_blk y'.toNat 0) (am_ent y'.toNat (ast.take n.toNat).reverse) [] h (some (0, pv), h) ∧ (ast.take n.toNat).length = n.toNat ∧ am_rcv kd y'.toNat (ast.take n.toNat).reverse h = true ∧ (am_exp (ast.take n.toNat)).length ≤ am_ml y'.toNat ∧ am_r32 pv := by
                        have hty := ty_les_l c1 hsT
                        have hn : n = am_np y'.toNat + 1 := by
                          cases i
                          case invokevirtual x =>
                            simp only [am_okI, Bool.and_eq_true, decide_eq_true_eq] at hoI
                            exact hoI.1.2
                          case invokestatic x =>
                            simp only [am_okI, Bool.and_eq_true, Bool.or_eq_true, decide_eq_true_eq] at hoI
                            omega
                          case invokespecial x =>
                            simp only [am_okI, Bool.and_eq_true, Bool.or_eq_true, decide_eq_true_eq] at hoI
                            omega
                          all_goals (first | exact absurd rfl k0 | exact absurd rfl k1 | exact absurd rfl k2)
                        have hlT1 := (ty_l_len hty).1
                        rcases c4 with (c4 | c4) | c4
                        · subst c4
                          rw [if_pos rfl] at hty
                          have hn1 : n = 1 := hn
                          subst hn1
                          cases hA : ast.take (1 : Int).toNat with
                          | nil => rw [hA] at hty; cases hty
                          | cons v0 vs =>
                            cases hB : st.take (1 : Int).toNat with
                            | nil => rw [hA, hB] at hty; cases hty
                            | cons s0 zs =>
                              rw [hA, hB] at hty
                              have evs : vs = [] := by cases vs with | nil => rfl | cons a b => cases zs <;> cases hty.2
                              have ezs : zs = [] := by cases zs with | nil => rfl | cons a b => cases vs <;> cases hty.2
                              subst evs
                              subst ezs
                              obtain ⟨e1, e2⟩ : v0 = (2, s0) ∧ st_is s0 := hty.1
                              subst e1
                              rw [hB] at E
                              have E' : (if (292 : Int).toNat = 292 ∧ s0 ≤ -10 ∧ -200 ≤ s0 ∧ s0 % 2 = 0 then some (st_len s0) else none) = some pv := E
                              rw [if_pos ⟨rfl, e2⟩] at E'
                              cases E'
                              refine ⟨am_S_length H e2 (d' + 3), rfl, am_S_rcv H e2 rfl, Nat.le_of_ble_eq_true rfl, ?_⟩
                              have := st_len_r s0
                              unfold am_r32
                              omega
                        all_goals
                          subst c4
                          rw [if_neg (by decide)] at hty
                          have hn1 : n = 2 := hn
                          subst hn1
                          cases hA : ast.take (2 : Int).toNat with
                          | nil => rw [hA] at hty; cases hty
                          | cons v0 vs =>
                            cases hB : st.take (2 : Int).toNat with
                            | nil => rw [hA, hB] at hty; cases hty
                            | cons s0 zs =>
                              rw [hA, hB] at hty
                              cases vs with
                              | nil => cases zs <;> cases hty.2
                              | cons v1 vs =>
                                cases zs with
                                | nil => cases hty.2
                                | cons s1 zs =>
                                  have evs : vs = [] := by cases vs with | nil => rfl | cons a b => cases zs <;> cases hty.2.2
                                  have ezs : zs = [] := by cases zs with | nil => rfl | cons a b => cases vs <;> cases hty.2.2
                                  subst evs
                                  subst ezs
                                  obtain ⟨e1, e2⟩ : v1 = (2, s1) ∧ st_is s1 := hty.2.1
                                  have e0 : v0 = (0, s0) := hty.1
                                  subst e1
                                  subst e0
                                  rw [hB] at E
                                  first
                                  | (have E' : (if s1 ≤ -10 ∧ -200 ≤ s1 ∧ s1 % 2 = 0 then (if (295 : Int).toNat = 295 ∧ 0 ≤ s0 ∧ s0 < st_len s1 then some (st_at s1 s0) else if (295 : Int).toNat = 289 ∧ 0 ≤ s0 ∧ s0 ≤ 65535 then some (st_idx s1 s0) else none) else none) = some pv := E
                                     rw [if_pos (show s1 ≤ -10 ∧ -200 ≤ s1 ∧ s1 % 2 = 0 from e2)] at E'
                                     split at E'
                                     · rename_i cc
                                       cases E'
                                       refine ⟨am_S_charAt H e2 cc.2.1 cc.2.2 (d' + 1), rfl, am_S_rcv H e2 rfl, Nat.le_of_ble_eq_true rfl, ?_⟩
                                       have := st_at_r s1 s0
                                       unfold am_r32
                                       omega
                                     · rw [if_neg (fun w => absurd w.1 (by decide))] at E'
                                       cases E')
                                  | (have E' : (if s1 ≤ -10 ∧ -200 ≤ s1 ∧ s1 % 2 = 0 then (if (289 : Int).toNat = 295 ∧ 0 ≤ s0 ∧ s0 < st_len s1 then some (st_at s1 s0) else if (289 : Int).toNat = 289 ∧ 0 ≤ s0 ∧ s0 ≤ 65535 then some (st_idx s1 s0) else none) else none) = some pv := E
                                     rw [if_pos (show s1 ≤ -10 ∧ -200 ≤ s1 ∧ s1 % 2 = 0 from e2), if_neg (fun w => absurd w.1 (by decide))] at E'
                                     split at E'
                                     · rename_i cc
                                       cases E'
                                       refine ⟨am_S_indexOf H e2 cc.2.1 cc.2.2 d', rfl, am_S_rcv H e2 rfl, Nat.le_of_ble_eq_true rfl, ?_⟩
                                       exact st_idx_r32 s1 s0
                                     · cases E')
                      obtain ⟨p1, p2, p3, p4, p5⟩ := key
                      obtain ⟨w, h3, g1, g2, g3, g4, g5, g6⟩ := IH (d' + 1) y _ ts _ als ((0, pv) :: ast.drop n.toNat) xs (pv :: st.drop n.toNat) h v h1 hr hy hoL hck hl ⟨rfl, hsD⟩ H hh hla (am_lok_c (am_vok_i p5) hlD) hlen
                      refine ⟨w, h3, ?_, g2, g3, g4, g5, g6⟩
                      exact am_ev.ct (d := d' + 4) (v := some (0, pv)) hk ck6 ck7 p2 (by omega) p3 p4 p1 g1
                    · cases hr
                  · rw [if_neg ct] at T
                    cases T
                · rename_i cp
                  rw [if_neg cp] at T
                  split at T
                  · rename_i ct
                    simp only [Bool.and_eq_true, Bool.or_eq_true, decide_eq_true_eq] at ct
                    obtain ⟨⟨⟨⟨⟨⟨⟨⟨c1, c2⟩, c3⟩, c4⟩, c5⟩, c6⟩, c7⟩, c8⟩, c9⟩ := ct
                    cases T
                    split at hr
                    · rename_i crv
                      split at hr
                      · rename_i v2 h' E
                        have hy' : ty_in y'.toNat := by unfold ty_in; omega
                        have hty := ty_les_l c1 (ty_l_rev hsT)
                        have hcat := (ty_l_cats hsD).1
                        have hcat2 := (ty_l_cats hty).1
                        have hM := ty_ok y'.toNat hy'
                        unfold ty_okM at hM
                        rw [Bool.and_eq_true, decide_eq_true_eq] at hM
                        obtain ⟨gk, gl⟩ := ty_okB_get hM.1 (b := 0) (e := (ty_ent y'.toNat (ty_pt y'.toNat), [])) hM.2
                        have hent := ty_entry hy' hty
                        have hentl : (am_ent y'.toNat (ast.take n.toNat).reverse).length = am_ml y'.toNat := by
                          have := (ty_l_len hent).1
                          rw [this]; exact gl
                        obtain ⟨w2, h2, b1, b2, b3, b4, b5, b6⟩ := IH d' y'.toNat _ _ [] _ [] _ [] h v2 h' E hy' (am_blk_ok (hO _ hy'.1) _) gk hent trivial H hh (am_lok_ent (fun w hw => hlT w (List.mem_reverse.mp hw)) _) (fun w hw => by cases hw) hentl
                        rw [b2] at hr
                        have hpush : ty_l h2 (if am_rt y'.toNat = 6 then tst.drop n.toNat else ty_rt y'.toNat :: tst.drop n.toNat) (am_push w2 (ast.drop n.toNat)) (lm_push y'.toNat v2 (st.drop n.toNat)) ∧ am_lok (am_n h2) (am_push w2 (ast.drop n.toNat)) := by
                          unfold lm_push
                          rcases b6 with ⟨r6, rfl⟩ | ⟨r6, u, rfl, tu, ou⟩
                          · rw [if_pos r6, if_pos r6]
                            exact ⟨ty_l_mono H b5 hsD, hlD.mono b5.1⟩
                          · rw [if_neg r6, if_neg r6]
                            exact ⟨⟨tu, ty_l_mono H b5 hsD⟩, am_lok_c ou (hlD.mono b5.1)⟩
                        obtain ⟨w, h3, g1, g2, g3, g4, g5, g6⟩ := IH (d' + 1) y _ ts _ als _ xs _ h2 v h1 hr hy hoL hck (ty_l_mono H b5 hl) hpush.1 b3 b4 (hla.mono b5.1) hpush.2 hlen
                        refine ⟨w, h3, ?_, g2, g3, g4, b5.tr g5, g6⟩
                        have hl1 := (ty_l_len hty).1
                        rw [List.length_reverse] at hl1
                        refine am_ev.ct (d := d' + 4) (v := w2) hk ck6 ck7 (by omega) (by omega) ?_ ?_ b1 g1
                        · unfold am_rcv
                          by_cases ck1 : kd = 1
                          · rw [if_pos ck1]
                          · rw [if_neg ck1]
                            rcases c7 with c7 | ⟨c7, c7'⟩
                            · exact absurd c7 ck1
                            have hcrv : 0 ≤ h_l (lm_of h) ((st.take n.toNat).reverse.headD (-9)) := by
                              rcases crv with crv | crv
                              · exact absurd crv ck1
                              · exact crv
                            cases hpt : ty_pt y'.toNat with
                            | nil => rw [hpt] at c7'; cases c7'
                            | cons t0 tr =>
                              rw [hpt] at c7' hty
                              simp at c7'
                              subst c7'
                              obtain ⟨va, a, vs, zs, e1, e2, hva, -⟩ := ty_c hty
                              rw [e2] at hcrv
                              obtain ⟨ea, a0, ka⟩ := ty_good H (by omega) (by omega) hva hcrv
                              subst ea
                              rw [e1]
                              show (if am_ow y'.toNat = 11 then _ else decide (0 ≤ a ∧ am_k h a = (am_ow y'.toNat : Int))) = true
                              rw [if_neg (by omega), decide_eq_true_eq]
                              exact ⟨a0, by omega⟩
                        · have e1 := (am_exp_len (fm := .null) (Or.inl rfl) (ad := fun _ => 0) (ast.take n.toNat)).2
                          have e3 := am_cats_rev (ast.take n.toNat)
                          omega
                      · cases hr
                    · cases hr
                  · cases T
          · cases hck
        · cases hr
end
