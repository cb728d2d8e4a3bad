set_option maxRecDepth 1000000
theorem am_known {s : State} {args : Array Value} (hts : ∀ w ∈ lw_tbl, w.before args s = true) : ∃ D : va_G, va_K D am_cl [] s := by
  have h0 : ∀ ci : Nat, ∃ q : ClassId × (Nat → Nat), ci < 11 → u_Kn s (am_nm ci) (am_T ci) (am_fn ci) q.1 q.2 := by
    intro ci
    by_cases h : ci < 11
    · obtain ⟨c, iS, hK⟩ := u_known (C := am_nm ci) (T := am_T ci) (N := am_fn ci) (n := am_fn ci) hts (fun w hw => lw_all_tbl (am_in ci h w hw)) (hts _ (lw_all_tbl (am_ins ci h).1))
      exact ⟨(c, iS), fun _ => hK⟩
    · exact ⟨(0, fun _ => 0), fun h' => absurd h' h⟩
  obtain ⟨g, hg⟩ := Classical.axiomOfChoice h0
  refine ⟨(fun k => (g k).1, fun k => (g k).2), fun k q hq => ?_, fun k q hq => by simp at hq⟩
  have hk : k < 11 := (List.getElem?_eq_some_iff.mp hq).1
  rw [am_clx k hk] at hq
  cases hq
  exact hg k hk
theorem am_strs0 {s : State} {args : Array Value} {A : Nat → Prop} (hts : ∀ w ∈ lw_tbl, w.before args s = true) (hfl : ∀ w ∈ am_flat, w.before args s = true) (hA : ∀ a : Nat, a < s.heap.size → ¬ A a) (k : Nat) (hk : k < 96) :
    ∃ q : Nat × Nat, vk_R (am_nm (am_sre k).1) (am_sre k).2.1 (am_sre k).2.2 q.1 s ∧ va_O "java/lang/String" q.1 A s s.heap ∧ va_OF "java/lang/String" "coder" "B" (.int 0) q.1 A s s.heap ∧ va_OF "java/lang/String" "value" "[B" (.ref q.2) q.1 A s s.heap ∧ va_T .byte q.2 (am_str k).length (fun j => .int (Int32.ofInt ((am_str k).getD j 0))) A s s.heap := by
  have hc : ∀ w ∈ am_scs k, w.before args s = true := fun w hw => hfl w (am_sc k hk w hw)
  have m0 : ∀ w, w ∈ [Cond.exactly (am_tm k) "java/lang/String", Cond.eq (.field (am_tm k) "java/lang/String" "coder" "B") (.int 0), Cond.arrayOf (.field (am_tm k) "java/lang/String" "value" "[B") .byte, Cond.eq (.length (.field (am_tm k) "java/lang/String" "value" "[B")) (.int (Int32.ofNat (am_str k).length))] → w.before args s = true := fun w hw => hc w (List.mem_append_left _ hw)
  have hex := m0 (Cond.exactly (am_tm k) "java/lang/String") (by simp)
  have hco := m0 (Cond.eq (.field (am_tm k) "java/lang/String" "coder" "B") (.int 0)) (by simp)
  have har := m0 (Cond.arrayOf (.field (am_tm k) "java/lang/String" "value" "[B") .byte) (by simp)
  have hle := m0 (Cond.eq (.length (.field (am_tm k) "java/lang/String" "value" "[B")) (.int (Int32.ofNat (am_str k).length))) (by simp)
  have hel : ∀ j : Nat, j < (am_str k).length → (Cond.eq (.elem (.field (am_tm k) "java/lang/String" "value" "[B") (.int (Int32.ofNat j))) (.int (Int32.ofInt ((am_str k).getD j 0)))).before args s = true := fun j hj => hc _ (List.mem_append_right _ (List.mem_map.mpr ⟨j, List.mem_range.mpr hj, rfl⟩))
  have hN : (am_str k).length < 2 ^ 31 := by have := am_strl k; omega
  obtain ⟨a, c, cA, kA, q1, q2, q3, q4, q5, q6, -⟩ := Cond.exactly_spec (args := args) (first := s) (o := none) (s := s) (idx := []) (t := am_tm k) (cls := "java/lang/String") hex
  obtain ⟨t, ht, hT⟩ := va_Tof (f := fun j => .int (Int32.ofInt ((am_str k).getD j 0))) (A := A) hN har (va_eqt hle) (fun j hj => va_eqt (hel j hj)) hA
  have hmem : am_sre k ∈ am_sr := by
    unfold am_sre
    rw [List.getD_eq_getElem?_getD, List.getElem?_eq_getElem (show k < am_sr.length from hk), Option.getD_some]
    exact List.getElem_mem _
  exact ⟨(a, t), vk_R.of (hts _ (am_so_ok _ hmem)) q1, ⟨cA, q3, q5, by rw [q6]; exact q2, hA a (Array.getElem?_eq_some_iff.mp q3).1⟩, vk_OFof q1 (va_eqt hco) hA, vk_OFof q1 ht hA, hT⟩
theorem am_Cs0 {s : State} {b Ln : Nat} {x : Nat → Int32} (hts : ∀ w ∈ lw_tbl, w.before #[Value.ref b] s = true) (hgv : (Jvm.Cond.and given_1 narrow_1).before #[Value.ref b] s = true) (hX : va_X b Ln x s s.heap) (hb : b < s.heap.size) (hLn : Ln ≤ 384) :
    ∃ (ad : Int → Nat) (fm : Value), ad (-2) = b ∧ am_Cs Ln (fun j => (x j.toNat).toInt) ad fm (fun q => s.heap.size ≤ q) s s.heap := by
  have hA : ∀ a : Nat, a < s.heap.size → ¬ (fun q : Nat => s.heap.size ≤ q) a := fun a ha h => absurd h (by omega)
  have hfl : ∀ w ∈ am_flat, w.before #[Value.ref b] s = true := flat_of_before _ hgv
  have h0 : ∀ k : Nat, ∃ q : Nat × Nat, k < 96 → vk_R (am_nm (am_sre k).1) (am_sre k).2.1 (am_sre k).2.2 q.1 s ∧ va_O "java/lang/String" q.1 (fun q => s.heap.size ≤ q) s s.heap ∧ va_OF "java/lang/String" "coder" "B" (.int 0) q.1 (fun q => s.heap.size ≤ q) s s.heap ∧ va_OF "java/lang/String" "value" "[B" (.ref q.2) q.1 (fun q => s.heap.size ≤ q) s s.heap ∧ va_T .byte q.2 (am_str k).length (fun j => .int (Int32.ofInt ((am_str k).getD j 0))) (fun q => s.heap.size ≤ q) s s.heap := by
    intro k
    by_cases hk : k < 96
    · obtain ⟨q, hq⟩ := am_strs0 hts hfl hA k hk
      exact ⟨q, fun _ => hq⟩
    · exact ⟨(0, 0), fun h => absurd h hk⟩
  obtain ⟨g, hg⟩ := Classical.axiomOfChoice h0
  have hz0 : va_Z (am_sf 101 0).1 (am_sf 101 0).2.1 (am_sf 101 0).2.2 (.int 1) (fun q => s.heap.size ≤ q) s s.heap := va_Zof (hts _ q542) (hts _ (lw_all_tbl q171)) (va_eqt (hfl _ (List.mem_of_getElem? am_cs))) hA
  have hz1 : va_Zq (am_sf 101 1).1 (am_sf 101 1).2.1 (am_sf 101 1).2.2 (fun q => s.heap.size ≤ q) s s.heap := va_Zqof (hts _ q585) (hts _ (lw_all_tbl q175)) (hfl _ (List.mem_of_getElem? am_fmt)) hA
  have hfm : ∃ fm : Value, am_nfm fm ∧ va_Z (am_sf 101 1).1 (am_sf 101 1).2.1 (am_sf 101 1).2.2 fm (fun q => s.heap.size ≤ q) s s.heap := by
    rcases hz1 with h | ⟨t, h⟩
    · exact ⟨_, Or.inl rfl, h⟩
    · exact ⟨_, Or.inr ⟨t, rfl⟩, h⟩
  obtain ⟨fm, hf1, hf2⟩ := hfm
  refine ⟨fun a => if a = -2 then b else if a % 2 = 0 then (g ((-10 - a) / 2).toNat).1 else (g ((-11 - a) / 2).toNat).2, fm, rfl, hf1, fun k hk => ?_, ?_, hz0, hf2, fun e he => ?_, fun e he h5 => ?_, fun k k1 k2 => ?_⟩
  · have e1 : (if (-10 - 2 * (k : Int)) = -2 then b else if (-10 - 2 * (k : Int)) % 2 = 0 then (g ((-10 - (-10 - 2 * (k : Int))) / 2).toNat).1 else (g ((-11 - (-10 - 2 * (k : Int))) / 2).toNat).2) = (g k).1 := by
      rw [if_neg (by omega), if_pos (by omega), show ((-10 - (-10 - 2 * (k : Int))) / 2).toNat = k by omega]
    have e2 : (if (-11 - 2 * (k : Int)) = -2 then b else if (-11 - 2 * (k : Int)) % 2 = 0 then (g ((-10 - (-11 - 2 * (k : Int))) / 2).toNat).1 else (g ((-11 - (-11 - 2 * (k : Int))) / 2).toNat).2) = (g k).2 := by
      rw [if_neg (by omega), if_neg (by omega), show ((-11 - (-11 - 2 * (k : Int))) / 2).toNat = k by omega]
    dsimp only
    rw [e1, e2]
    exact hg k hk
  · obtain ⟨scr, g1, g2, g3, g4, g5⟩ := hX
    show va_T .int b (Ln : Int).toNat _ _ s s.heap
    rw [Int.toNat_natCast]
    refine ⟨scr, g1, g2, g3, by omega, by rw [g4], ?_, ?_⟩
    · intro j hj
      rw [g5 j hj]
      dsimp only
      rw [Int.toNat_natCast, Int32.ofInt_toInt]
    · exact hA b hb
  · exact va_Nw.of rfl (hts _ (am_fB e he))
  · have := am_mA e he
    unfold am_mo at this
    rw [h5] at this
    exact va_Nw.of rfl (hts _ this)
  · have : k = 20 ∨ k = 21 ∨ k = 22 ∨ k = 23 := by omega
    rcases this with rfl | rfl | rfl | rfl
    · exact va_AO.of (hts _ q190)
    · exact va_AO.of (hts _ q325)
    · exact va_AO.of (hts _ q327)
    · exact va_AO.of (hts _ q329)
