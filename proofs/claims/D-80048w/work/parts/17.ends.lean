set_option maxRecDepth 100000
theorem am_tgt_sp {y : Nat} {b t : Int} (h : am_tgt y b t = true) : ∃ q : Nat, am_hd (am_blk y b.toNat) = some q ∧ (q : Int) = t := by
  unfold am_tgt at h
  simp only [Bool.and_eq_true] at h
  obtain ⟨-, h⟩ := h
  split at h
  · rename_i q hq
    exact ⟨q, hq, by simpa using h⟩
  · cases h
section
variable {p : Program} {l : Launch} {e : Env} {R : Room} {s : State} {m : MethodId} {args : Array Value} {below : List Frame} {meth : Method} {c : Code} {Q : State → Prop} {fm : Value} {D : va_G} {A : Nat → Prop} {h1 h h' : am_H}
variable {y d pc : Nat} {i : Instr} {r : List Int} {ls st st' : List am_V} {ad : Int → Nat} {cA : Int → ClassId} {tys : List (ClassId × FieldType)} {L : Int} {xs : Int → Int} {tg : Option Int} {nx : Option Nat}
theorem am_br_ok {n : Int} (hs : am_lok n st) (E : am_br i r st = some (tg, st')) : am_lok n st' := by
  unfold am_br at E
  split at E
  · cases E; exact hs
  · cases E; exact hs
  · split at E
    · cases E; exact (am_lok_t hs).2
    · cases E
  · split at E
    · cases E; exact (am_lok_t (am_lok_t hs).2).2
    · cases E
  · split at E
    · split at E
      · cases E
      · cases E; exact (am_lok_t hs).2
    · cases E
  · split at E
    · split at E
      · cases E
      · cases E; exact (am_lok_t hs).2
    · cases E
  · split at E
    · cases E; exact (am_lok_t hs).2
    · cases E
  · cases E
theorem am_stepB (hf : am_nfm fm) (F : am_Fx y d p R s m args meth c) (hok : am_okI y i r pc nx = true) (hs : am_lok (am_n h) st) (E : am_br i r st = some (tg, st'))
    (k1 : ∀ b q, tg = some b → am_hd (am_blk y b.toNat) = some q → am_At p l e R s m args below meth c Q fm D A h1 h q ls st' ad cA tys)
    (k2 : tg = none → ∀ q, nx = some q → am_At p l e R s m args below meth c Q fm D A h1 h q ls st' ad cA tys) : am_At p l e R s m args below meth c Q fm D A h1 h pc ls st ad cA tys := by
  unfold am_br at E
  split at E
  · rename_i b
    cases E
    simp only [am_okI] at hok
    obtain ⟨q, g1, g2⟩ := am_tgt_sp hok
    have : q = pc := by omega
    subst this
    exact k1 b q rfl g1
  · rename_i off b
    cases E
    simp only [am_okI, Bool.and_eq_true] at hok
    obtain ⟨q, g1, g2⟩ := am_tgt_sp hok.2
    intro arr H locs ha hw hS
    exact lv_goto F.1 F.2.1 (am_dec_sp hok.1) g2.symm (k1 b q rfl g1 arr H locs ha hw hS)
  · rename_i cd off b
    split at E
    · rename_i x q0
      cases E
      simp only [am_okI, Bool.and_eq_true, decide_eq_true_eq] at hok
      obtain ⟨⟨hdec, hnx⟩, ht⟩ := hok
      obtain ⟨q, g1, g2⟩ := am_tgt_sp ht
      have hx : am_r32 x := (am_lok_t hs).1.1 rfl
      have z : (0 : Int32) = Int32.ofInt 0 := rfl
      intro arr H locs ha hw hS
      have a1 := fun (w : am_cmp cd x 0 = true) => k1 b q (if_pos w) g1 arr H locs ha hw hS
      have a2 := fun (w : ¬ am_cmp cd x 0 = true) => k2 (if_neg w) (pc + 3) hnx arr H locs ha hw hS
      cases cd
      · exact lv_if_eq F.1 F.2.1 (am_dec_sp hdec) g2.symm (fun w => a1 (by rw [z, am_inj32 hx am_z32] at w; simpa [am_cmp] using w)) (fun w => a2 (by rw [z, am_inj32 hx am_z32] at w; simpa [am_cmp] using w))
      · exact lv_if_ne F.1 F.2.1 (am_dec_sp hdec) g2.symm (fun w => a1 (by rw [z, am_inj32 hx am_z32] at w; simpa [am_cmp] using w)) (fun w => a2 (by rw [z, am_inj32 hx am_z32] at w; simpa [am_cmp] using w))
      · exact lv_if_lt F.1 F.2.1 (am_dec_sp hdec) g2.symm (fun w => a1 (by rw [z, am_lt32 hx am_z32] at w; simpa [am_cmp] using w)) (fun w => a2 (by rw [z, am_lt32 hx am_z32] at w; simpa [am_cmp] using w))
      · exact lv_if_ge F.1 F.2.1 (am_dec_sp hdec) g2.symm (fun w => a1 (by rw [z, am_le32 am_z32 hx] at w; simpa [am_cmp] using w)) (fun w => a2 (by rw [z, am_le32 am_z32 hx] at w; simpa [am_cmp] using w))
      · exact lv_if_gt F.1 F.2.1 (am_dec_sp hdec) g2.symm (fun w => a1 (by rw [z, am_lt32 am_z32 hx] at w; simpa [am_cmp] using w)) (fun w => a2 (by rw [z, am_lt32 am_z32 hx] at w; simpa [am_cmp] using w))
      · exact lv_if_le F.1 F.2.1 (am_dec_sp hdec) g2.symm (fun w => a1 (by rw [z, am_le32 hx am_z32] at w; simpa [am_cmp] using w)) (fun w => a2 (by rw [z, am_le32 hx am_z32] at w; simpa [am_cmp] using w))
    · cases E
  · rename_i cd off b
    split at E
    · rename_i yv x q0
      cases E
      simp only [am_okI, Bool.and_eq_true, decide_eq_true_eq] at hok
      obtain ⟨⟨hdec, hnx⟩, ht⟩ := hok
      obtain ⟨q, g1, g2⟩ := am_tgt_sp ht
      have hy : am_r32 yv := (am_lok_t hs).1.1 rfl
      have hx : am_r32 x := (am_lok_t (am_lok_t hs).2).1.1 rfl
      intro arr H locs ha hw hS
      have a1 := fun (w : am_cmp cd x yv = true) => k1 b q (if_pos w) g1 arr H locs ha hw hS
      have a2 := fun (w : ¬ am_cmp cd x yv = true) => k2 (if_neg w) (pc + 3) hnx arr H locs ha hw hS
      cases cd
      · exact lv_icmp_eq F.1 F.2.1 (am_dec_sp hdec) g2.symm (fun w => a1 (by rw [am_inj32 hx hy] at w; simpa [am_cmp] using w)) (fun w => a2 (by rw [am_inj32 hx hy] at w; simpa [am_cmp] using w))
      · exact lv_icmp_ne F.1 F.2.1 (am_dec_sp hdec) g2.symm (fun w => a1 (by rw [am_inj32 hx hy] at w; simpa [am_cmp] using w)) (fun w => a2 (by rw [am_inj32 hx hy] at w; simpa [am_cmp] using w))
      · exact lv_icmp_lt F.1 F.2.1 (am_dec_sp hdec) g2.symm (fun w => a1 (by rw [am_lt32 hx hy] at w; simpa [am_cmp] using w)) (fun w => a2 (by rw [am_lt32 hx hy] at w; simpa [am_cmp] using w))
      · exact lv_icmp_ge F.1 F.2.1 (am_dec_sp hdec) g2.symm (fun w => a1 (by rw [am_le32 hy hx] at w; simpa [am_cmp] using w)) (fun w => a2 (by rw [am_le32 hy hx] at w; simpa [am_cmp] using w))
      · exact lv_icmp_gt F.1 F.2.1 (am_dec_sp hdec) g2.symm (fun w => a1 (by rw [am_lt32 hy hx] at w; simpa [am_cmp] using w)) (fun w => a2 (by rw [am_lt32 hy hx] at w; simpa [am_cmp] using w))
      · exact lv_icmp_le F.1 F.2.1 (am_dec_sp hdec) g2.symm (fun w => a1 (by rw [am_le32 hx hy] at w; simpa [am_cmp] using w)) (fun w => a2 (by rw [am_le32 hx hy] at w; simpa [am_cmp] using w))
    · cases E
  · rename_i off b
    split at E
    · rename_i a q0
      split at E
      · cases E
      rename_i c3
      cases E
      simp only [am_okI, Bool.and_eq_true, decide_eq_true_eq] at hok
      obtain ⟨⟨hdec, hnx⟩, ht⟩ := hok
      obtain ⟨q, g1, g2⟩ := am_tgt_sp ht
      intro arr H locs ha hw hS
      by_cases c0 : a = -1
      · have k3 := k1 b q (if_pos c0) g1 arr H locs ha hw hS
        subst c0
        exact lv_ifnullN F.1 F.2.1 (am_dec_sp hdec) g2.symm k3
      · have k3 := k2 (if_neg c0) (pc + 3) hnx arr H locs ha hw hS
        rw [List.map_cons, am_vl_r ad fm c0 c3]
        exact lv_ifnull F.1 F.2.1 (am_dec_sp hdec) k3
    · cases E
  · rename_i off b
    split at E
    · rename_i a q0
      split at E
      · cases E
      rename_i c3
      cases E
      simp only [am_okI, Bool.and_eq_true, decide_eq_true_eq] at hok
      obtain ⟨⟨hdec, hnx⟩, ht⟩ := hok
      obtain ⟨q, g1, g2⟩ := am_tgt_sp ht
      intro arr H locs ha hw hS
      by_cases c0 : a = -1
      · have k3 := k2 (if_pos c0) (pc + 3) hnx arr H locs ha hw hS
        subst c0
        exact lv_ifnonnullN F.1 F.2.1 (am_dec_sp hdec) k3
      · have k3 := k1 b q (if_neg c0) g1 arr H locs ha hw hS
        rw [List.map_cons, am_vl_r ad fm c0 c3]
        exact lv_ifnonnull F.1 F.2.1 (am_dec_sp hdec) g2.symm k3
    · cases E
  · rename_i df lo hi os b bs
    split at E
    · rename_i x q0
      cases E
      simp only [am_okI, Bool.and_eq_true, decide_eq_true_eq] at hok
      obtain ⟨hdec, ⟨⟨ht, hbl⟩, hhi⟩, hall⟩ := hok
      have hx : am_r32 x := (am_lok_t hs).1.1 rfl
      split at hdec
      · rename_i i' n' hq
        simp only [decide_eq_true_eq] at hdec
        rw [hdec] at hq
        intro arr H locs ha hw hS
        by_cases c0 : x < lo ∨ hi < x
        · obtain ⟨q, g1, g2⟩ := am_tgt_sp ht
          exact lv_tableOut F.1 F.2.1 hq (by rw [am_i32 hx]; exact c0) g2.symm (k1 b q (if_pos c0) g1 arr H locs ha hw hS)
        · have hlt : (x - lo).toNat < bs.length := by omega
          have hlo : (x - lo).toNat < os.size := by omega
          have hb : bs[(x - lo).toNat]? = some bs[(x - lo).toNat] := List.getElem?_eq_getElem hlt
          have ho : os[(x - lo).toNat]? = some os[(x - lo).toNat] := Array.getElem?_eq_getElem hlo
          have hz : am_tgt y bs[(x - lo).toNat] (pc + os[(x - lo).toNat]) = true := by
            have := List.all_eq_true.mp hall (bs[(x - lo).toNat], os[(x - lo).toNat]) (List.mem_of_getElem? (i := (x - lo).toNat) (by
              rw [List.getElem?_zip_eq_some]
              exact ⟨hb, by rw [Array.getElem?_toList]; exact ho⟩))
            exact this
          obtain ⟨q, g1, g2⟩ := am_tgt_sp hz
          refine lv_tableIn F.1 F.2.1 hq (by rw [am_i32 hx]; omega) (by rw [am_i32 hx]; omega) (off := os[(x - lo).toNat]) (by rw [am_i32 hx]; exact ho) g2.symm (k1 bs[(x - lo).toNat] q ?_ g1 arr H locs ha hw hS)
          rw [if_neg c0, hb]
      · cases hdec
    · cases E
  · cases E
theorem am_nar_b {x : Int} (h1 : -128 ≤ x) (h2 : x ≤ 127) : narrow .byte (.int (Int32.ofInt x)) = .int (Int32.ofInt x) := by
  show Value.int ((Int32.ofInt x).toInt8.toInt32) = _
  congr 1
  apply Int32.toInt_inj.mp
  rw [Int8.toInt_toInt32, Int32.toInt_toInt8, am_i32 ⟨by omega, by omega⟩]
  exact Int.bmod_eq_of_le (by omega) (by omega)
theorem am_nar_c {x : Int} (h1 : 0 ≤ x) (h2 : x ≤ 65535) : narrow .char (.int (Int32.ofInt x)) = .int (Int32.ofInt x) := by
  have e : Int32.ofInt x = nI x.toNat := by unfold nI; rw [← Int32.ofInt_eq_ofNat, Int.toNat_of_nonneg h1]
  rw [e]
  exact (pk_charN (by omega)).1
/-- a method's end -/
def am_Qc (D : va_G) (fm : Value) (A : Nat → Prop) (ad0 : Int → Nat) (n1 : Int) (v : Option am_V) (h' : am_H) : Array Value → State → Outcome → State → Prop := fun _ st o t =>
  ∃ (ad' : Int → Nat) (cA' : Int → ClassId) (tys' : List (ClassId × FieldType)), am_ex n1 ad0 ad' ∧ o = .returned (v.map (am_vl ad' fm)) ∧ am_Wd D ad' fm cA' tys' A h' t t.heap ∧ va_F A st t
theorem am_ret_ok {n : Int} {rt : Nat} {v : Option am_V} (hs : am_lok n st) (E : am_ret i rt st h = some (v, h')) : h' = h ∧ ∀ w, v = some w → am_vok n w := by
  unfold am_ret at E
  split at E
  · split at E
    · cases E; exact ⟨rfl, fun w hw => by cases hw⟩
    · cases E
  · split at E
    · cases E; exact ⟨rfl, fun w hw => by cases hw; exact (am_lok_t hs).1⟩
    · cases E
  · split at E
    · cases E; exact ⟨rfl, fun w hw => by cases hw; exact (am_lok_t hs).1⟩
    · cases E
  · split at E
    · cases E; exact ⟨rfl, fun w hw => by cases hw; exact (am_lok_t hs).1⟩
    · cases E
  · cases E
theorem am_stepR {v : Option am_V} {ad0 : Int → Nat} (hf : am_nfm fm) (hy : y < 310) (F : am_Fx y d p R s m args meth c) (hok : am_okI y i r pc nx = true) (hs : am_lok (am_n h) st) (E : am_ret i (am_rt y) st h = some (v, h')) (hx : am_ex (am_n h1) ad0 ad) :
    am_At p l e R s m args below meth c (MQ below (am_Qc D fm A ad0 (am_n h1) v h') args s (am_n h' - am_n h1).toNat (am_m h' - am_m h1).toNat A) fm D A h1 h pc ls st ad cA tys := by
  have hK := am_okh y hy
  unfold am_okK at hK
  simp only [Bool.and_eq_true, decide_eq_true_eq] at hK
  have hR := hK.1.1.2
  have hr := F.2.2.2.2.2.2.2.1
  have hlocks := F.2.2.2.2.2.2.2.2.1
  intro arr H locs ha hw hS
  have fin : ∀ (w : Option am_V) (t : State), t.heap = H → s.WarmedH t.vm → am_Qc D fm A ad0 (am_n h1) w h args s (.returned (w.map (am_vl ad fm))) t := by
    intro w t ht hW
    exact ⟨ad, cA, tys, hx, rfl, ⟨hw.1.moved hW.alike, by rw [ht]; exact hw.2.1, hw.2.2.1, hw.2.2.2⟩, hS.F ht⟩
  unfold am_ret at E
  split at E
  · split at E
    · rename_i c0
      cases E
      simp only [am_okI] at hok
      rw [c0] at hR
      split at hR
      all_goals first | (rename_i c1 c2; rw [c2] at hr; exact W.vret F.1 F.2.1 hr (fun t ht hW => fin none t ht hW) hS.2.2 (am_dec_sp hok) hlocks) | (exfalso; simp_all; done)
    · cases E
  · rename_i x
    split at E
    · rename_i c0
      cases E
      simp only [am_okI] at hok
      have hx32 : am_r32 x := (am_lok_t hs).1.1 rfl
      split at hR
      · rename_i c1 c2
        rw [c2] at hr
        exact W.zret F.1 F.2.1 hr rfl (fun t ht hW => fin (some (0, x)) t ht hW) hS.2.2 (am_dec_sp hok) hlocks
      · rename_i c1 c2
        rw [c2] at hr
        have hv : x = 0 ∨ x = 1 := by rw [c1] at c0; omega
        refine W.zret F.1 F.2.1 hr ?_ (fun t ht hW => fin (some (0, x)) t ht hW) hS.2.2 (am_dec_sp hok) hlocks
        rcases hv with rfl | rfl <;> rfl
      · rename_i c1 c2
        rw [c2] at hr
        have hv : -128 ≤ x ∧ x ≤ 127 := by rw [c1] at c0; omega
        refine W.zret F.1 F.2.1 hr ?_ (fun t ht hW => fin (some (0, x)) t ht hW) hS.2.2 (am_dec_sp hok) hlocks
        exact am_nar_b hv.1 hv.2
      · rename_i c1 c2
        rw [c2] at hr
        have hv : 0 ≤ x ∧ x ≤ 65535 := by rw [c1] at c0; omega
        refine W.zret F.1 F.2.1 hr ?_ (fun t ht hW => fin (some (0, x)) t ht hW) hS.2.2 (am_dec_sp hok) hlocks
        exact am_nar_c hv.1 hv.2
      · rename_i c1 c2; rw [c1] at c0; omega
      · rename_i c1 c2; rw [c1] at c0; omega
      · rename_i c1 c2; rw [c1] at c0; omega
      · rename_i c1 c2; rw [c1] at c0; omega
      · cases hR
    · cases E
  · rename_i x
    split at E
    · rename_i c0
      cases E
      simp only [am_okI] at hok
      rw [c0] at hR
      split at hR
      all_goals first | (rename_i c1 c2; rw [c2] at hr; exact W.lret F.1 F.2.1 hr (fun t ht hW => fin (some (1, x)) t ht hW) hS.2.2 (am_dec_sp hok) hlocks) | (exfalso; simp_all; done)
    · cases E
  · rename_i x
    split at E
    · rename_i c0
      cases E
      simp only [am_okI] at hok
      rw [c0.1] at hR
      split at hR
      all_goals first | (rename_i n1 c1 c2; rw [c2] at hr; exact W.aret F.1 F.2.1 hr (Or.inl ⟨_, rfl⟩) (am_rf_or hf ad x) (fun t ht hW => fin (some (2, x)) t ht hW) hS.2.2 (am_dec_sp hok) hlocks) | (rename_i n1 c1 c2; rw [c2] at hr; exact W.aret F.1 F.2.1 hr (Or.inr ⟨_, rfl⟩) (am_rf_or hf ad x) (fun t ht hW => fin (some (2, x)) t ht hW) hS.2.2 (am_dec_sp hok) hlocks) | (exfalso; simp_all; done)
    · cases E
  · cases E
end
