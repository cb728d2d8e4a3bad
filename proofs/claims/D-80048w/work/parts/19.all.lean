set_option maxRecDepth 100000
theorem am_run_nil (f d y : Nat) (ls st : List am_V) (h : am_H) : am_run f d y [] ls st h = none := by
  cases f <;> rfl
theorem am_okL_c {y : Nat} {i : Instr} {r : List Int} {pc : Nat} {co : List am_I} (h : am_okL y ((i, r, pc) :: co) = true) : am_okI y i r pc (am_hd co) = true ∧ am_okL y co = true := by
  unfold am_okL at h
  exact Bool.and_eq_true_iff.mp h
theorem am_ow11x : (List.range 310).all (fun y => decide (am_sk y = 0 → am_ow y ≠ 11 → am_ow y < 11)) = true := by decide +kernel
theorem am_lk7x : ∀ e ∈ am_mAl, e.2.2.1 = 7 → e.2.2.2 = 0 := by decide +kernel
theorem am_lk7 {w x k : Nat} (h : (w, x, 7, k) ∈ am_mAl) : (w, x, 7, 0) ∈ am_mAl := by
  have e : k = 0 := am_lk7x _ h rfl
  rw [e] at h
  exact h
theorem am_ow2x : (List.range 310).all (fun y => decide (am_sk y = 2 → am_ow y ≠ 11)) = true := by decide +kernel
theorem am_split (st : List am_V) (n : Nat) : (st.take n).reverse.reverse ++ st.drop n = st := by rw [List.reverse_reverse, List.take_append_drop]
theorem am_all {l : Launch} {L : Int} {xs : Int → Int} (hL : 0 ≤ L) (hL2 : L ≤ 1000000) (hx : ∀ i, am_r32 (xs i)) (hO : ∀ y, y < 310 → am_okM y = true) : ∀ f, am_P l L xs f := by
  intro f
  induction f with
  | zero => intro d y co ls st h v h' hr; cases hr
  | succ f IH =>
    intro d y co ls st h v h' hr hy hok hlen hh hl hs
    cases co with
    | nil => cases hr
    | cons c0 co' =>
      obtain ⟨i, r, pc0⟩ := c0
      obtain ⟨hoI, hoL⟩ := am_okL_c hok
      unfold am_run at hr
      dsimp only at hr
      split at hr
      · -- plain
        split at hr
        · rename_i ls' st' h2 E
          cases co' with
          | nil => rw [am_run_nil] at hr; cases hr
          | cons c1 co'' =>
            obtain ⟨i1, r1, pc1⟩ := c1
            have S := am_step_ok hL hL2 hx hoI hh hl hs E
            obtain ⟨s1, s2, s3, s4, s5⟩ := S
            obtain ⟨A1, A2⟩ := IH d y _ ls' st' h2 v h' hr hy hoL (s5.trans hlen) s1 s3 s4
            refine ⟨⟨A1.1, s2.tr A1.2.1, A1.2.2⟩, ?_⟩
            intro p e R s m args below meth c Q fm D A h1 ad ad0 cA tys pc hend hpc F C hA hm1 hm2 hex hrc hrs
            cases hpc
            have q1 := A1.2.1.1
            have q2 := A1.2.1.2.1
            have q3 := s2.1
            have q4 := s2.2.1
            exact am_step0 hL hL2 C F hA hoI hh hl hs E hm1 hm2 (by omega) (by omega) (fun ad' cA' tys' hx' => A2 p e R s m args below meth c Q fm D A h1 ad' ad0 cA' tys' pc1 hend rfl F (C.ex hx' hh.1) hA (by omega) (by omega) (hex.tr hx' hm1) hrc hrs)
        · cases hr
      · -- jumps
        split at hr
        · rename_i b st' E
          obtain ⟨A1, A2⟩ := IH d y _ ls st' h v h' hr hy (am_blk_ok (hO y hy) _) hlen hh hl (am_br_ok hs E)
          refine ⟨A1, ?_⟩
          intro p e R s m args below meth c Q fm D A h1 ad ad0 cA tys pc hend hpc F C hA hm1 hm2 hex hrc hrs
          cases hpc
          exact am_stepB C.1 F hoI hs E (fun b' q hb hq => by cases hb; exact A2 p e R s m args below meth c Q fm D A h1 ad ad0 cA tys q hend hq F C hA hm1 hm2 hex hrc hrs) (fun hb => by cases hb)
        · rename_i st' E
          cases co' with
          | nil => rw [am_run_nil] at hr; cases hr
          | cons c1 co'' =>
            obtain ⟨i1, r1, pc1⟩ := c1
            obtain ⟨A1, A2⟩ := IH d y _ ls st' h v h' hr hy hoL hlen hh hl (am_br_ok hs E)
            refine ⟨A1, ?_⟩
            intro p e R s m args below meth c Q fm D A h1 ad ad0 cA tys pc hend hpc F C hA hm1 hm2 hex hrc hrs
            cases hpc
            exact am_stepB C.1 F hoI hs E (fun b' q hb => by cases hb) (fun _ q hq => by cases hq; exact A2 p e R s m args below meth c Q fm D A h1 ad ad0 cA tys _ hend rfl F C hA hm1 hm2 hex hrc hrs)
        · cases hr
      · -- ends
        obtain ⟨e1, e2⟩ := am_ret_ok hs hr
        subst e1
        refine ⟨⟨hh, am_mn.rf _, e2⟩, ?_⟩
        intro p e R s m args below meth c Q fm D A h1 ad ad0 cA tys pc hend hpc F C hA hm1 hm2 hex hrc hrs
        cases hpc
        exact hend i r _ _ ls st ad cA tys hoI hs hr hex
      · -- calls
        rename_i k0 k1 k2
        split at hr
        · rename_i d' kd y' n
          split at hr
          · -- Object.<init>
            rename_i ck
            split at hr
            · rename_i a q
              split at hr
              · rename_i cv
                cases co' with
                | nil => rw [am_run_nil] at hr; cases hr
                | cons c1 co'' =>
                  obtain ⟨i1, r1, pc1⟩ := c1
                  obtain ⟨A1, A2⟩ := IH (d' + 1) y _ ls q h v h' hr hy hoL hlen hh hl (am_lok_t hs).2
                  refine ⟨A1, ?_⟩
                  intro p e R s m args below meth c Q fm D A h1 ad ad0 cA tys pc hend hpc F C hA hm1 hm2 hex hrc hrs
                  cases hpc
                  have kk := A2 p e R s m args below meth c Q fm D A h1 ad ad0 cA tys pc1 hend rfl F C hA hm1 hm2 hex hrc hrs
                  intro arr H locs ha hw hS
                  have k5 := kk arr H locs ha hw hS
                  have hF1 := F.2.2.2.2.2.1
                  have hF2 := F.2.2.2.2.2.2.1
                  cases i
                  case invokespecial x =>
                    simp only [am_okI, Bool.and_eq_true, decide_eq_true_eq] at hoI
                    obtain ⟨⟨⟨⟨hdec, hnx⟩, hy0⟩, hlk⟩, -⟩ := hoI
                    cases hnx
                    subst ck
                    have hl6 : Cond.methodLink (am_nm (am_ow y)) x Lib.objectInit ∈ lw_all := am_mA _ hlk
                    rw [List.map_cons, am_vl_r ad fm (by omega) (by omega)]
                    exact W.objInit F.1 F.2.1 F.2.2.2.1 (F.2.2.2.2.1 _ hl6) (F.2.2.2.2.1 _ q187) (F.2.2.2.2.1 _ q188) rfl (by show arr.size = _; rw [ha.1, hlen, F.2.2.1]) rfl (am_dec_sp hdec) (by omega) (by
                      have e9 : ((q.map (am_vl ad fm)).map fun v => v.category).sum = am_cats q := am_cats_vl C.1 ad q
                      show 2 * 0 + _ + 12 ≤ _
                      rw [e9]; omega) k5
                  case invokevirtual x =>
                    simp only [am_okI, Bool.and_eq_true, decide_eq_true_eq] at hoI
                    omega
                  case invokestatic x =>
                    simp only [am_okI, Bool.and_eq_true, Bool.or_eq_true, decide_eq_true_eq] at hoI
                    omega
                  all_goals (first | exact absurd rfl k0 | exact absurd rfl k1 | exact absurd rfl k2)
              · cases hr
            · cases hr
          · rename_i ck
            split at hr
            · -- System.arraycopy
              rename_i ck7
              split at hr
              · rename_i q h2 E
                cases co' with
                | nil => rw [am_run_nil] at hr; cases hr
                | cons c1 co'' =>
                  obtain ⟨i1, r1, pc1⟩ := c1
                  unfold am_copies at E
                  split at E
                  · rename_i n' dp b sp a q'
                    split at E
                    · rename_i cv
                      cases E
                      obtain ⟨v1, v2, v3, v4, v5, v6, v7, v8, v9, v10, v11⟩ := cv
                      obtain ⟨g1, g2⟩ := am_cpy_ok (dp := dp) hh v2 v1 v3 v4 v5 v7 v9
                      obtain ⟨A1, A2⟩ := IH (d' + 1) y _ ls q _ v h' hr hy hoL hlen g1 (hl.mono g2.1) ((am_lok_t (am_lok_t (am_lok_t (am_lok_t (am_lok_t hs).2).2).2).2).2.mono g2.1)
                      refine ⟨⟨A1.1, g2.tr A1.2.1, A1.2.2⟩, ?_⟩
                      intro p e R s m args below meth c Q fm D A h1 ad ad0 cA tys pc hend hpc F C hA hm1 hm2 hex hrc hrs
                      cases hpc
                      have kk := A2 p e R s m args below meth c Q fm D A h1 ad ad0 cA tys pc1 hend rfl F C hA hm1 hm2 hex hrc hrs
                      cases i
                      case invokestatic x =>
                        simp only [am_okI, Bool.and_eq_true, decide_eq_true_eq] at hoI
                        obtain ⟨⟨⟨⟨hdec, hnx⟩, hy0⟩, hlk⟩, -⟩ := hoI
                        cases hnx
                        subst ck7
                        exact am_W_cpy C.1 hh (am_lk7 hlk) (by omega) v1 v2 v3 v4 v5 v6 v7 v8 v9 v10 v11 F hlen (am_dec_sp hdec) kk
                      case invokevirtual x =>
                        simp only [am_okI, Bool.and_eq_true, decide_eq_true_eq] at hoI
                        omega
                      case invokespecial x =>
                        simp only [am_okI, Bool.and_eq_true, Bool.or_eq_true, decide_eq_true_eq] at hoI
                        omega
                      all_goals (first | exact absurd rfl k0 | exact absurd rfl k1 | exact absurd rfl k2)
                    · cases E
                  · cases E
              · cases hr
            · -- a method of ours
              rename_i ck7
              split at hr
              · rename_i cv
                split at hr
                · rename_i v2 h2 E
                  cases co' with
                  | nil => rw [am_run_nil] at hr; cases hr
                  | cons c1 co'' =>
                    obtain ⟨i1, r1, pc1⟩ := c1
                    obtain ⟨w1, w2, w3, w4⟩ := cv
                    have hsp := am_split st n.toNat
                    have hstA : am_lok (am_n h) (st.take n.toNat) := fun w hw => hs w (List.mem_of_mem_take hw)
                    have hstB : am_lok (am_n h) (st.drop n.toNat) := fun w hw => hs w (List.mem_of_mem_drop hw)
                    have hasl : am_lok (am_n h) (st.take n.toNat).reverse := fun w hw => hstA w (List.mem_reverse.mp hw)
                    have hexp : (am_exp (st.take n.toNat).reverse).length ≤ am_ml y'.toNat := by
                      have e1 := (am_exp_len (fm := .null) (Or.inl rfl) (ad := fun _ => 0) (st.take n.toNat)).2
                      have e2 := (am_exp_len (fm := .null) (Or.inl rfl) (ad := fun _ => 0) (st.take n.toNat).reverse).2
                      rw [am_cats_rev] at e2
                      omega
                    have hy' : y'.toNat < 310 := by
                      cases i
                      case invokevirtual x =>
                        simp only [am_okI, Bool.and_eq_true, decide_eq_true_eq] at hoI
                        have h309 : y'.toNat < 309 := (am_mAx _ hoI.1.1.2).1
                        omega
                      case invokestatic x =>
                        simp only [am_okI, Bool.and_eq_true, decide_eq_true_eq] at hoI
                        have h309 : y'.toNat < 309 := (am_mAx _ hoI.1.2).1
                        omega
                      case invokespecial x =>
                        simp only [am_okI, Bool.and_eq_true, decide_eq_true_eq] at hoI
                        have h309 : y'.toNat < 309 := (am_mAx _ hoI.1.2).1
                        omega
                      all_goals (first | exact absurd rfl k0 | exact absurd rfl k1 | exact absurd rfl k2)
                    have hentl : (am_ent y'.toNat (st.take n.toNat).reverse).length = am_ml y'.toNat := by unfold am_ent; rw [List.length_append, List.length_replicate]; omega
                    obtain ⟨B1, -⟩ := IH d' y'.toNat _ _ [] h v2 h2 E hy' (am_blk_ok (hO _ hy') _) hentl hh (am_lok_ent hasl _) (fun w hw => by cases hw)
                    have hpush : am_lok (am_n h2) (am_push v2 (st.drop n.toNat)) := by
                      cases v2 with
                      | none => exact hstB.mono B1.2.1.1
                      | some w => exact am_lok_c (B1.2.2 w rfl) (hstB.mono B1.2.1.1)
                    obtain ⟨A1, A2⟩ := IH (d' + 1) y _ ls _ h2 v h' hr hy hoL hlen B1.1 (hl.mono B1.2.1.1) hpush
                    refine ⟨⟨A1.1, B1.2.1.tr A1.2.1, A1.2.2⟩, ?_⟩
                    intro p e R s m args below meth c Q fm D A h1 ad ad0 cA tys pc hend hpc F C hA hm1 hm2 hex hrc hrs
                    cases hpc
                    have q1 := A1.2.1.1
                    have q2 := A1.2.1.2.1
                    have q3 := B1.2.1.1
                    have q4 := B1.2.1.2.1
                    have kk := fun (ad' : Int → Nat) (cA' : Int → ClassId) (tys' : List (ClassId × FieldType)) (hx' : am_ex (am_n h) ad ad') => A2 p e R s m args below meth c Q fm D A h1 ad' ad0 cA' tys' pc1 hend rfl F (C.ex hx' hh.1) hA (by omega) (by omega) (hex.tr hx' hm1) hrc hrs
                    rw [← hsp]
                    cases i
                    case invokestatic x =>
                      simp only [am_okI, Bool.and_eq_true, Bool.or_eq_true, decide_eq_true_eq] at hoI
                      obtain ⟨⟨⟨⟨hdec, hnx⟩, hy0⟩, hlk⟩, hnn⟩ := hoI
                      cases hnx
                      rcases hnn with hnn | ⟨⟨hk1, hn⟩, hsk⟩
                      · exact absurd hnn ck7
                      subst hk1
                      exact am_call IH E hy' (hO _ hy') hexp hh hl (by rw [hsp]; exact hs) w2 C F hA hlen hm1 hm2 B1.2.1 (by omega) (by omega) (fun arr H locs ha hw hS Pc Qc mc ms hM hb hp hc => am_runS F C.1 hlk hsk (by rw [List.length_reverse, w1]; omega) hlen w2 (am_dec_sp hdec) ha hM hb hp hc) kk
                    case invokevirtual x =>
                      simp only [am_okI, Bool.and_eq_true, decide_eq_true_eq] at hoI
                      obtain ⟨⟨⟨⟨⟨⟨hdec, hnx⟩, hk1⟩, hy0⟩, hlk⟩, hn⟩, hsk⟩ := hoI
                      cases hnx
                      unfold am_rcv at w3
                      rw [if_neg (by omega)] at w3
                      split at w3
                      · rename_i a as' heq
                        have how := of_decide_eq_true (List.all_eq_true.mp am_ow11x y'.toNat (List.mem_range.mpr hy')) hsk
                        have hlen2 : as'.length = am_np y'.toNat := by
                          have e1 := congrArg List.length heq
                          rw [List.length_reverse, w1, List.length_cons] at e1
                          omega
                        have hrv : if am_ow y'.toNat = 11 then am_k h a = 100 else 0 ≤ a ∧ am_k h a = (am_ow y'.toNat : Int) := by
                          split at w3
                          · rename_i c1; rw [if_pos c1]; exact of_decide_eq_true w3
                          · rename_i c1; rw [if_neg c1]; exact of_decide_eq_true w3
                        rw [heq] at E hexp ⊢
                        exact am_call IH E hy' (hO _ hy') hexp hh hl (by rw [← heq, hsp]; exact hs) w2 C F hA hlen hm1 hm2 B1.2.1 (by omega) (by omega) (fun arr H locs ha hw hS Pc Qc mc ms hM hb hp hc => am_runV F C hh hlk hsk hrv how hlen2 hlen w2 (am_dec_sp hdec) ha hw hS hM hb hp hc) kk
                      · cases w3
                    case invokespecial x =>
                      simp only [am_okI, Bool.and_eq_true, Bool.or_eq_true, decide_eq_true_eq] at hoI
                      obtain ⟨⟨⟨⟨hdec, hnx⟩, hy0⟩, hlk⟩, hnn⟩ := hoI
                      cases hnx
                      rcases hnn with hnn | ⟨⟨hk1, hn⟩, hsk⟩
                      · exact absurd hnn ck
                      unfold am_rcv at w3
                      rw [if_neg (by omega)] at w3
                      split at w3
                      · rename_i a as' heq
                        have hlen2 : as'.length = am_np y'.toNat := by
                          have e1 := congrArg List.length heq
                          rw [List.length_reverse, w1, List.length_cons] at e1
                          omega
                        have a0 : 0 ≤ a := by
                          split at w3
                          · rename_i c1; exact absurd c1 (of_decide_eq_true (List.all_eq_true.mp am_ow2x y'.toNat (List.mem_range.mpr hy')) hsk)
                          · exact (of_decide_eq_true w3).1
                        have hlk2 : (am_ow y, x, 2, y'.toNat) ∈ am_mAl ∨ (am_ow y, x, 5, y'.toNat) ∈ am_mAl := by
                          rcases hk1 with hk1 | hk1
                          · left; rw [hk1] at hlk; exact hlk
                          · right; rw [hk1] at hlk; exact hlk
                        rw [heq] at E hexp ⊢
                        exact am_call IH E hy' (hO _ hy') hexp hh hl (by rw [← heq, hsp]; exact hs) w2 C F hA hlen hm1 hm2 B1.2.1 (by omega) (by omega) (fun arr H locs ha hw hS Pc Qc mc ms hM hb hp hc => am_runI F C hlk2 hsk a0 hlen2 hlen w2 (am_dec_sp hdec) ha hM hb hp hc) kk
                      · cases w3
                    all_goals (first | exact absurd rfl k0 | exact absurd rfl k1 | exact absurd rfl k2)
                · cases hr
              · cases hr
        · cases hr
