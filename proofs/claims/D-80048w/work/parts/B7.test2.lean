set_option maxRecDepth 100000
/-! readers: the list of in ( ) -/
theorem mk_kind_in {act : Int} (h : act = 15 ∨ act = 16) : mk_kind act 0 = 11 := by rcases h with rfl | rfl <;> rfl
theorem mk_kind_is {act : Int} (h : act = 13 ∨ act = 14) : mk_kind act 0 = 10 := by rcases h with rfl | rfl <;> rfl
theorem mk_kind_cp {act : Int} (h : 7 ≤ act ∧ act ≤ 12) : mk_kind act 0 = 9 := by
  have : act = 7 ∨ act = 8 ∨ act = 9 ∨ act = 10 ∨ act = 11 ∨ act = 12 := by omega
  rcases this with rfl | rfl | rfl | rfl | rfl | rfl <;> rfl
section
variable {B L : Nat}
/-- the model with a fault: to the end of the act -/
theorem mt_11 {f p : Int} {s : ms_S} {d' si : Nat} {s0 : ms_S} {P : Int → ms_S → Prop} {x1 x2 x3 x4 x5 x6 x7 x8 x9 x10 : Int} (h : MF s f p) (hd : 4 ≤ d') (he : eF si s0 s) (hP : ∀ v' s', MF s' f p → eF si s0 s' → P v' s') : mw (d' + 1) 206 (am_blk 206 11) [159, x1, x2, x3, x4, x5, x6, x7, x8, x9, x10] [] s P := by
  have fin : ∀ z : Int, mw (d' + 1) 206 (am_blk 206 13) [159, 0, x2, x3, x4, x5, x6, x7, x8, x9, x10] [z, 0, 177] s P := by
    intro z
    refine w206_13 ⟨by omega, by omega, fun s1 e1 => w206_14 (fun s2 e2 => hP _ s2 (h.fr (fun q h1 h2 => by rw [e2, ms_u_f _ _ _ (by omega), e1, ms_u_f _ _ _ (by omega)])) (he.tr ((by rw [e1]; exact eF.u (by omega) : eF si s s1).tr (by rw [e2]; exact eF.u (by omega)))))⟩
  exact w206_11 (h.needS (by omega) (h.make (by omega) ⟨fun _ => fin 0, fun _ => fin 1⟩))
theorem mt_10 {f p : Int} {s : ms_S} {d' si : Nat} {s0 : ms_S} {P : Int → ms_S → Prop} {x1 x2 x3 x4 x5 x6 x7 x8 x9 x10 : Int} (h : MF s f p) (hd : 4 ≤ d') (he : eF si s0 s) (hP : ∀ v' s', MF s' f p → eF si s0 s' → P v' s') : mw (d' + 1) 206 (am_blk 206 10) [159, x1, x2, x3, x4, x5, x6, x7, x8, x9, x10] [] s P :=
  w206_10 (h.takeS (by omega) (w206_7 ⟨fun _ => mt_11 h hd he hP, fun w => absurd rfl w⟩))
/-- the component likewise -/
theorem kt_13 {pl f p : Int} {c : cs_S} {d : Nat} {Q : Int → cs_S → Prop} {x1 x2 x3 x4 x5 x6 x7 x8 x9 x10 : Int} (h : CF c pl f p) (hd : 5 ≤ d) (hq : Q 0 c) : cw (d + 1) 59 (am_blk 59 13) [pl, x1, x2, x3, x4, x5, x6, x7, x8, x9, x10] [] c Q := by
  have fin : ∀ z : Int, cw (d + 1) 59 (am_blk 59 15) [pl, x1, x2, x3, x4, x5, x6, x7, x8, x9, x10] [z, pl] c Q := fun z => u59_15 ⟨h.1, k_between0 h (by omega) hq⟩
  have hr := h.1
  refine u59_13 ?_
  repeat refine ⟨hr, ?_⟩
  refine k_want0 h (by omega) ?_
  repeat refine ⟨hr, ?_⟩
  exact ⟨fun _ => fin 15, fun _ => fin 16⟩
theorem kt_12 {pl f p : Int} {c : cs_S} {d : Nat} {Q : Int → cs_S → Prop} {x1 x2 x3 x4 x5 x6 x7 x8 x9 x10 : Int} (h : CF c pl f p) (hd : 5 ≤ d) (hq : Q 0 c) : cw (d + 1) 59 (am_blk 59 12) [pl, x1, x2, x3, x4, x5, x6, x7, x8, x9, x10] [] c Q := by
  have hr := h.1
  refine u59_12 ?_
  repeat refine ⟨hr, ?_⟩
  exact k_eats0 h (by omega) (u59_7 ⟨fun _ => kt_13 h hd hq, fun w => absurd rfl w⟩)
theorem xo.nx {lo l K : Nat} {v : Int} {Rr : Nat → Prop} {Vk V3 : pV} (h : xo (vT Vk) lo (vN Vk) Rr) (x3 : eX K Vk V3) (hl : l + 1 = vN Vk) : xo (x_up (vT V3) l (r_n (vT V3 l) v)) lo (vN V3) (fun e => Rr e ∨ e + 1 = vN V3) := by
  have ag := x3.1.2.2.1
  have b4 := x3.2.2.2.1
  have fld : ∀ a, x_act (x_up (vT V3) l (r_n (vT V3 l) v)) a = x_act (vT V3) a ∧ x_a (x_up (vT V3) l (r_n (vT V3 l) v)) a = x_a (vT V3) a ∧ x_b (x_up (vT V3) l (r_n (vT V3 l) v)) a = x_b (vT V3) a ∧ x_c (x_up (vT V3) l (r_n (vT V3 l) v)) a = x_c (vT V3) a := by
    intro a
    by_cases c : a = l
    · rw [c]; unfold x_act x_a x_b x_c; rw [x_up_eq]; exact ⟨rfl, rfl, rfl, rfl⟩
    · unfold x_act x_a x_b x_c; rw [x_up_ne _ c]; exact ⟨rfl, rfl, rfl, rfl⟩
  intro e g1 g2
  by_cases c : e < vN Vk
  · rcases h e g1 c with q | ⟨a, q1, q2, q3⟩
    · exact Or.inl (Or.inl q)
    · refine Or.inr ⟨a, q1, by omega, (q3.of_eq (fun i hi => (ag i (by omega)).1)).congr (fld a) (fun L _ _ h2 i hi => ?_)⟩
      unfold x_n; rw [x_up_ne _ (by have := h2 i hi; omega)]
  · rcases x3.ox e (by omega) g2 with q | ⟨a, q1, q2, q3⟩
    · exact Or.inl (Or.inr q)
    · refine Or.inr ⟨a, q1, q2, q3.congr (fld a) (fun L hL hact h2 i hi => ?_)⟩
      have hp := (x3.1.2.2.2.1 a (by omega) q2).1.1 (by omega)
      have hi2 : vN Vk ≤ i := by
        unfold x_p0 at hp
        rcases hp with hp | hp | hp | hp | ⟨-, -, L', -, -, h5, h6⟩ | hp
        · omega
        · omega
        · have := hp.1; unfold x_two at this; omega
        · omega
        · rw [x_li_uq L L' _ hL h5] at hi
          exact (h6 i hi).1
        · omega
      unfold x_n; rw [x_up_ne _ (by omega)]
/-- what stands of the list so far -/
def ilx (V V1 Vk : pV) (fst lst : Int) (N : Nat) : Prop := (N = 0 ∧ fst = -1 ∧ lst = -1 ∧ xo (vT Vk) (vN V) (vN Vk) (fun e => e + 1 = vN V1)) ∨ ∃ (I : List Nat) (l : Nat), I.length + 1 = N ∧ lst = (l : Int) ∧ 0 ≤ fst ∧ l + 1 = vN Vk ∧ x_li (vT Vk) fst (I ++ [l]) ∧ (∀ q ∈ I, vN V1 ≤ q ∧ q < l) ∧ vN V1 ≤ l ∧ x_n (vT Vk) l = -1 ∧ xo (vT Vk) (vN V) (vN Vk) (fun e => e + 1 = vN V1 ∨ e ∈ I ++ [l])
def il (V V1 Vk : pV) (K : Nat) (fst lst : Int) (N : Nat) : Prop := eY K (vN V) V Vk ∧ vN V1 ≤ vN Vk ∧ vA V1 < vA Vk ∧ vA Vk ≤ K ∧ vD Vk = vD V ∧ vS Vk = vS V ∧ vM Vk = vM V ∧ (vM V = false → vG Vk = vG V) ∧ N ≤ 8 ∧ ilx V V1 Vk fst lst N
theorem r_inl (hB : 8 ≤ B) (hS : rX tk_bs kplan_readSum md_sum B L) {pl : Int} {b : Int → Int} {n K : Nat} {R : Int} {c : cs_S} {V V1 : pV} {d : Nat} {Q : Int → cs_S → Prop} {v1 act x4 x5 : Int} (hd : B ≤ d) (hVL : vD V + L = 12) (hx : eX K V V1) (hbg : tk_bs b n (vA V) (vM V)) (hv1 : v1 = ((vN V1 - 1 : Nat) : Int)) (h5 : (x5 = 0 ∧ act = 15) ∨ (x5 ≠ 0 ∧ act = 16))
    (kk : ∀ v c', c_sm (eW pl R) c c' → rP tk_bs md_test (B + 1) pl b n K R V v c' → Q v c') :
    ∀ (r : Nat) (c2 : cs_S) (Vk : pV) (fst lst : Int) (N : Nat) (x10 : Int), K - vA Vk = r → CE c2 pl b n K R Vk → c_sm (eW pl R) c c2 → il V V1 Vk K fst lst N → (∀ (si : Nat) (s : ms_S) (d' : Nat) (P : Int → ms_S → Prop), ME s b n K R si V → B ≤ d' → (∀ (s1 : ms_S) (y4 y10 : Int), ME s1 b n K R si Vk → eF si s s1 → mw (d' + 1) 206 (am_blk 206 7) [159, v1, (tk_p b n (vA V) : Int), (tk_p b n (vA V1) : Int), y4, x5, fst, lst, (N : Int), 1, y10] [] s1 P) → md_test (d' + 1) s P) → cw (d + 1) 59 (am_blk 59 7) [pl, (vA V : Int), v1, (vA V1 : Int), x4, x5, fst, lst, (N : Int), 1, x10] [] c2 Q := by
  intro r
  induction r using Nat.strongRecOn with
  | _ r ih =>
  intro c2 Vk fst lst N x10 hr h2 s2 hil hm
  have hr2 := h2.r
  have hl2 := h2.le
  have ha2 := h2.2.2.1.1
  have hf2 := h2.2.2.1.2.2.1
  have hx1 := hx.2.1
  have hx3 := hx.2.2.1
  have hx4 := hx.2.2.2.1
  obtain ⟨i1, i2, i3, i4, i5, i6, i7, i8, i9, i10⟩ := id hil
  have hact : act = 15 ∨ act = 16 := by rcases h5 with h | h; exact Or.inl h.2; exact Or.inr h.2
  have ha12 : 7 ≤ act ∧ act ≤ 16 := by rcases hact with h | h <;> omega
  -- the end with a fault
  have finF : ∀ (c' : cs_S) (f p : Int), CF c' pl f p → c_sm (eW pl R) c c' → (∀ (si : Nat) (s : ms_S) (d' : Nat) (P : Int → ms_S → Prop), ME s b n K R si V → B ≤ d' → (∀ (x1 x2 x3 x4 x5 x6 x7 x8 x9 x10 : Int) (s1 : ms_S), MF s1 f p → eF si s s1 → mw (d' + 1) 206 (am_blk 206 10) [159, x1, x2, x3, x4, x5, x6, x7, x8, x9, x10] [] s1 P) → md_test (d' + 1) s P) → Q 0 c' := by
    intro c' f p hf s' hmf
    refine kk 0 c' s' (Or.inr ⟨f, p, hf, fun si s D P hME hD hP => ?_⟩)
    obtain ⟨d', rfl⟩ : ∃ d', D = d' + 1 := ⟨D - 1, by omega⟩
    exact hmf si s d' P hME (by omega) (fun _ _ _ _ _ _ _ _ _ _ s1 hf1 he1 => mt_10 hf1 (by omega) he1 hP)
  -- behind one more
  have more : ∀ (c3 : cs_S) (V3 : pV) (fst3 : Int) (l3 : Nat) (N3 : Nat) (x9 : Int), CE c3 pl b n K R V3 → c_sm (eW pl R) c c3 → il V V1 V3 K fst3 (l3 : Int) N3 → 1 ≤ N3 → vA Vk < vA V3 → (∀ (si : Nat) (s : ms_S) (d' : Nat) (P : Int → ms_S → Prop), ME s b n K R si V → B ≤ d' → (∀ (s1 : ms_S) (y4 y7 y9 : Int), ME s1 b n K R si V3 → eF si s s1 → mw (d' + 1) 206 (am_blk 206 10) [159, v1, (tk_p b n (vA V) : Int), (tk_p b n (vA V1) : Int), y4, x5, fst3, y7, (N3 : Int), y9, (l3 : Int)] [] s1 P) → md_test (d' + 1) s P) → cw (d + 1) 59 (am_blk 59 12) [pl, (vA V : Int), v1, (vA V1 : Int), x4, x5, fst3, (l3 : Int), (N3 : Int), x9, (l3 : Int)] [] c3 Q := by
    intro c3 V3 fst3 l3 N3 x9 h3 s3 hi3 hN3 hlt3 hm3
    have hr3 := h3.r
    have hl3 := h3.le
    refine u59_12 ?_
    repeat refine ⟨hr3, ?_⟩
    refine k_eats h3 (by omega) (sty (by omega)) (fun q => ?_) (fun q => ?_)
    · have hlt := tk_is_lt h3.2.1.2.1 hl3.1 q
      obtain ⟨j1, j2, j3, j4, j5, j6, j7, j8, j9, j10⟩ := id hi3
      have h4 := h3.at (k := vA V3 + 1) (by omega)
      refine ih (K - (vA V3 + 1)) (by omega) _ (v_at V3 (vA V3 + 1)) fst3 (l3 : Int) N3 _ rfl h4 (s3.tr (c_sm.u _ (by unfold eW; omega) _ _)) ⟨j1.tr (eY.at V3 (by omega)), j2, by show vA V1 < vA V3 + 1; omega, by show vA V3 + 1 ≤ K; omega, j5, j6, j7, j8, j9, j10⟩ (fun si s d' P hME hd' hP => ?_)
      refine hm3 si s d' P hME hd' (fun s1 y4 y7 y9 hME1 he1 => w206_10 (hME1.takeS1 (by omega) ts_44 q (hP _ _ _ (hME1.at (by omega)) (he1.tr (eF.u (by omega))))))
    · -- the closing sign
      refine u59_7 ⟨fun _ => u59_13 ?_, fun w => absurd rfl w⟩
      repeat refine ⟨hr3, ?_⟩
      obtain ⟨j1, j2, j3, j4, j5, j6, j7, j8, j9, j10⟩ := id hi3
      have hv1r : ((vN V : Nat) : Int) ≤ v1 ∧ v1 < ((vN V3 : Nat) : Int) := by rw [hv1]; omega
      have j10 : ∃ (I : List Nat) (l : Nat), I.length + 1 = N3 ∧ (l3 : Int) = (l : Int) ∧ 0 ≤ fst3 ∧ l + 1 = vN V3 ∧ x_li (vT V3) fst3 (I ++ [l]) ∧ (∀ q ∈ I, vN V1 ≤ q ∧ q < l) ∧ vN V1 ≤ l ∧ x_n (vT V3) l = -1 ∧ xo (vT V3) (vN V) (vN V3) (fun e => e + 1 = vN V1 ∨ e ∈ I ++ [l]) := by
        rcases j10 with j | j
        · omega
        · exact j
      obtain ⟨I, l, k1, k2, k3, k4, k5, k6, k7, k8, k9⟩ := j10
      have modc : ∀ (si : Nat) (s : ms_S) (d' : Nat) (P : Int → ms_S → Prop), ME s b n K R si V → B ≤ d' → (∀ (s1 : ms_S) (y4 y7 y9 : Int), ME s1 b n K R si V3 → eF si s s1 → mw (d' + 1) 206 (am_blk 206 11) [159, v1, (tk_p b n (vA V) : Int), (tk_p b n (vA V1) : Int), y4, x5, fst3, y7, (N3 : Int), 0, (l3 : Int)] [] s1 P) → md_test (d' + 1) s P := by
        intro si s d' P hME hd' hP
        refine hm3 si s d' P hME hd' (fun s1 y4 y7 y9 hME1 he1 => w206_10 (hME1.takeS0 (by omega) ts_44 q (w206_7 ⟨fun _ => hP s1 _ _ 0 hME1 he1, fun w => absurd rfl w⟩)))
      refine k_want h3 (by omega) (sty (by omega)) (fun q2 => ?_) (fun q2 => ?_)
      · have hlt := tk_is_lt h3.2.1.2.1 hl3.1 q2
        have h4 := h3.at (k := vA V3 + 1) (by omega)
        have s4 : c_sm (eW pl R) c (c_u c3 122 pl 0 ((vA V3 + 1 : Nat) : Int)) := s3.tr (c_sm.u _ (by unfold eW; omega) _ _)
        have hr4 := h4.r
        repeat refine ⟨hr4, ?_⟩
        have go : cw (d + 1) 59 (am_blk 59 15) [pl, (vA V : Int), v1, (vA V1 : Int), x4, x5, fst3, (l3 : Int), (N3 : Int), 0, (l3 : Int)] [act, pl] (c_u c3 122 pl 0 ((vA V3 + 1 : Nat) : Int)) Q := by
          refine u59_15 ⟨hr4, k_between h4 (by omega) (by omega) (fun hN c5 z s5 g5 => kk _ _ (s4.tr s5) (Or.inl ⟨_, g5, ⟨?_, hbg⟩, rfl, fun si s D P hME hD hP => ?_⟩)) (fun hN => kk _ _ (s4.tr c_fl_sm) (Or.inr ⟨7, tk_p b n (vA V1), h4.cf (by omega), fun si s D P hME hD hP => ?_⟩))⟩
          · have hN : vN V3 < 120 := hN
            have xe : x_up (vT V3) (vN V3) (act, v1, fst3, -1, -1, z) (vN V3) = (act, v1, fst3, -1, -1, z) := x_up_eq _ _ _
            have hp : x_p (x_up (vT V3) (vN V3) (act, v1, fst3, -1, -1, z)) K (vN V) (vN V3) := by
              refine ⟨fun _ => Or.inr (Or.inr (Or.inr (Or.inr (Or.inl ⟨?_, ?_, I ++ [l], ?_, ?_, ?_, ?_⟩)))), ?_, fun q => ?_⟩
              · unfold x_act; rw [xe]; exact hact
              · unfold x_a; rw [xe]; exact hv1r
              · simp
              · rw [List.length_append]; show I.length + 1 ≤ 8; omega
              · unfold x_b; rw [xe]
                refine x_li_congr _ _ (fun i hi => ?_) k5
                have : i < vN V3 := by
                  rcases List.mem_append.mp hi with hi | hi
                  · have := k6 i hi; omega
                  · have := List.mem_singleton.mp hi; omega
                unfold x_n; rw [x_up_ne _ (by omega)]
              · intro i hi
                rcases List.mem_append.mp hi with hi | hi
                · have := k6 i hi; omega
                · have := List.mem_singleton.mp hi; omega
              · unfold x_act; rw [xe]; show act ≤ 29; omega
              · unfold x_act at q; rw [xe] at q; have q : 26 ≤ act := q; omega
            refine ⟨(j1.tr (eY.at V3 (by omega))).tr (eY.add (V := v_at V3 (vA V3 + 1)) hp (by omega) (by omega) (by show act < 25; omega)), by show vA V < vA V3 + 1; omega, by show vA V3 + 1 ≤ K; omega, by show vN V < vN V3 + 1; omega, j5, j6, j7, j8, ?_, fun q => ?_, xo.add (T := vT V3) (hi := vN V3) k9 (fun e he h1 h2 => ?_)⟩
            · show x_n (x_up (vT V3) (vN V3) (act, v1, fst3, -1, -1, z)) (vN V3 + 1 - 1) = -1
              rw [Nat.add_sub_cancel]
              unfold x_n
              rw [xe]
            · exfalso
              have q : x_act (x_up (vT V3) (vN V3) (act, v1, fst3, -1, -1, z)) (vN V3 + 1 - 1) = 3 := q
              rw [Nat.add_sub_cancel] at q
              unfold x_act at q
              rw [xe] at q
              have q : act = 3 := q
              omega
            · rcases he with he | he
              · exact x_kid_a ⟨by show 4 ≤ act; omega, by show act ≤ 24; omega⟩ (by show v1 = _; omega)
              · have mem : ∀ i ∈ I ++ [l], i < vN V3 := by
                  intro i hi
                  rcases List.mem_append.mp hi with hi | hi
                  · have := k6 i hi; omega
                  · have := List.mem_singleton.mp hi; omega
                unfold x_kid x_act x_b
                rw [xe]
                exact ⟨by show 4 ≤ act; omega, by show act ≤ 29; omega, Or.inr (Or.inl ⟨hact, I ++ [l], x_li_congr _ _ (fun i hi => by unfold x_n; rw [x_up_ne _ (by have := mem i hi; omega)]) k5, he, mem⟩)⟩
          · have hN : vN V3 < 120 := hN
            obtain ⟨d', rfl⟩ : ∃ d', D = d' + 1 := ⟨D - 1, by omega⟩
            refine modc si s d' P hME (by omega) (fun s1 y4 y7 y9 hME1 he1 => w206_11 (hME1.needS1 (by omega) ts_41 q2 ?_))
            have hME2 := hME1.at (k := vA V3 + 1) (by omega)
            rw [show (11 : Int) = mk_kind act 0 from (mk_kind_in hact).symm]
            have e13 : ∀ (hw : Int), hw = mk_how act → ∀ (s' : ms_S) (y4 y7 y9 : Int), (ME (ms_u s' 27 (vN V3 : Int) hw) b n K R si (v_add (v_at V3 (vA V3 + 1)) (act, v1, fst3, -1, -1, z) (vA V1) (vA V))) → eF si (ms_u s1 18 0 ((vA V3 + 1 : Nat) : Int)) (ms_u s' 27 (vN V3 : Int) hw) → mw (d' + 1) 206 (am_blk 206 13) [159, (vN V3 : Int), (tk_p b n (vA V) : Int), (tk_p b n (vA V1) : Int), y4, x5, fst3, y7, (N3 : Int), y9, (l3 : Int)] [hw, (vN V3 : Int), 177] s' P := by
              intro hw hhw s' y4 y7 y9 hME4 he4
              refine w206_13 ⟨by omega, by omega, fun s5 e5 => w206_14 (fun s6 e6 => ?_)⟩
              rw [e6, e5]
              exact hP _ hME4.sp (he1.tr ((eF.u (by omega)).tr (he4.tr (eF.u (by omega))))) (ms_u_eq _ _ _ _)
            rcases h5 with ⟨h5, ha⟩ | ⟨h5, ha⟩
            · refine hME2.mkh (tok := vA V1) (hw := 0) (by omega) hN ha12 (by rw [ha]; rfl) (by omega) (fun s' s4 e4 hME4 he4 => ⟨fun _ => e13 0 (by rw [ha]; rfl) s' _ _ _ (by rw [e4] at hME4; exact hME4) (by rw [e4] at he4; exact he4), fun w => absurd h5 w⟩)
            · refine hME2.mkh (tok := vA V1) (hw := 1) (by omega) hN ha12 (by rw [ha]; rfl) (by omega) (fun s' s4 e4 hME4 he4 => ⟨fun w => absurd w h5, fun _ => e13 1 (by rw [ha]; rfl) s' _ _ _ (by rw [e4] at hME4; exact hME4) (by rw [e4] at he4; exact he4)⟩)
          · have hN : vN V3 = 120 := hN
            obtain ⟨d', rfl⟩ : ∃ d', D = d' + 1 := ⟨D - 1, by omega⟩
            refine modc si s d' P hME (by omega) (fun s1 y4 y7 y9 hME1 he1 => w206_11 (hME1.needS1 (by omega) ts_41 q2 ?_))
            have hME2 := hME1.at (k := vA V3 + 1) (by omega)
            have hf := hME2.mf (f := 7) (p := (tk_p b n (vA V1) : Int))
            have fin : ∀ (z : Int) (y4 y7 y9 : Int), mw (d' + 1) 206 (am_blk 206 13) [159, 0, (tk_p b n (vA V) : Int), (tk_p b n (vA V1) : Int), y4, x5, fst3, y7, (N3 : Int), y9, (l3 : Int)] [z, 0, 177] (m_fl (ms_u s1 18 0 ((vA V3 + 1 : Nat) : Int)) 7 (tk_p b n (vA V1))) P := by
              intro z y4 y7 y9
              refine w206_13 ⟨by omega, by omega, fun s5 e5 => w206_14 (fun s6 e6 => ?_)⟩
              rw [e6, e5]
              exact hP _ _ (hf.fr (fun q h1 h2 => by rw [ms_u_f _ _ _ (by omega), ms_u_f _ _ _ (by omega)])) (he1.tr ((eF.u (by omega)).tr (eF.fl.tr ((eF.u (by omega)).tr (eF.u (by omega))))))
            exact hME2.full (by omega) hN ⟨fun _ => fin 0 _ _ _, fun _ => fin 1 _ _ _⟩
        rcases h5 with ⟨h5, ha⟩ | ⟨h5, ha⟩
        · subst ha; exact ⟨fun _ => go, fun w => absurd h5 w⟩
        · subst ha; exact ⟨fun w => absurd w h5, fun _ => go⟩
      · have hf := h3.cf (x := 1) (y := (tk_p b n (vA V3) : Int)) (by omega)
        have hrf := hf.1
        repeat refine ⟨hrf, ?_⟩
        have done : Q 0 (c_fl c3 pl 1 (tk_p b n (vA V3))) := by
          refine kk 0 _ (s3.tr c_fl_sm) (Or.inr ⟨1, tk_p b n (vA V3), hf, fun si s D P hME hD hP => ?_⟩)
          obtain ⟨d', rfl⟩ : ∃ d', D = d' + 1 := ⟨D - 1, by omega⟩
          refine modc si s d' P hME (by omega) (fun s1 y4 y7 y9 hME1 he1 => w206_11 (hME1.needS0 (by omega) ts_41 q2 ?_))
          have hf1 := hME1.mf (f := 1) (p := (tk_p b n (vA V3) : Int))
          have fin : ∀ (z : Int) (y4 y7 y9 : Int), mw (d' + 1) 206 (am_blk 206 13) [159, 0, (tk_p b n (vA V) : Int), (tk_p b n (vA V1) : Int), y4, x5, fst3, y7, (N3 : Int), y9, (l3 : Int)] [z, 0, 177] (m_fl s1 1 (tk_p b n (vA V3))) P := by
            intro z y4 y7 y9
            refine w206_13 ⟨by omega, by omega, fun s5 e5 => w206_14 (fun s6 e6 => ?_)⟩
            rw [e6, e5]
            exact hP _ _ (hf1.fr (fun q h1 h2 => by rw [ms_u_f _ _ _ (by omega), ms_u_f _ _ _ (by omega)])) (he1.tr (eF.fl.tr ((eF.u (by omega)).tr (eF.u (by omega)))))
          exact hf1.make (by omega) ⟨fun _ => fin 0 _ _ _, fun _ => fin 1 _ _ _⟩
        have fin : ∀ z : Int, cw (d + 1) 59 (am_blk 59 15) [pl, (vA V : Int), v1, (vA V1 : Int), x4, x5, fst3, (l3 : Int), (N3 : Int), 0, (l3 : Int)] [z, pl] (c_fl c3 pl 1 (tk_p b n (vA V3))) Q := fun z => u59_15 ⟨hrf, k_between0 hf (by omega) done⟩
        exact ⟨fun _ => fin 15, fun _ => fin 16⟩
  -- one more is read
  have b8 : (N = 8 → ¬ tk_bs b n (vA Vk) (vM Vk)) → cw (d + 1) 59 (am_blk 59 8) [pl, (vA V : Int), v1, (vA V1 : Int), x4, x5, fst, lst, (N : Int), 1, x10] [] c2 Q := by
    intro h8
    -- the model, up to the sum
    have mod8 : ∀ (si : Nat) (s : ms_S) (d' : Nat) (P : Int → ms_S → Prop), ME s b n K R si V → B ≤ d' → (∀ (s1 : ms_S) (y4 y10 : Int), ME s1 b n K R si Vk → eF si s s1 → mw (d' + 1) 206 (am_blk 206 8) [159, v1, (tk_p b n (vA V) : Int), (tk_p b n (vA V1) : Int), y4, x5, fst, lst, ((N + 1 : Nat) : Int), 1, y10] [] s1 P) → md_test (d' + 1) s P := by
      intro si s d' P hME hd' hP
      refine hm si s d' P hME hd' (fun s1 y4 y10 hME1 he1 => w206_7 ⟨fun w => absurd w (by omega), fun _ => ⟨fun w => absurd (hME1.2.1.2.2.1.symm.trans w) (by decide), fun _ => ?_⟩⟩)
      rw [am_w_s (by omega)]
      refine ⟨fun _ => hP s1 _ _ hME1 he1, fun w => k_mbegins hME1 (by omega) (fun q => ?_) (fun q => ⟨fun _ => hP s1 _ _ hME1 he1, fun w => absurd rfl w⟩)⟩
      exfalso
      rcases q with q | q
      · exact h8 (by omega) q
      · omega
    refine u59_8 ?_
    repeat refine ⟨hr2, ?_⟩
    refine hS pl b n K R c2 Vk d _ h2 (by omega) hd (fun v c3 s3 hP => ?_)
    have s23 := s2.tr s3
    rcases hP with ⟨V3, h3, ⟨x3, hb3⟩, ev, mg⟩ | ⟨f, p, hf, mf⟩
    · have hN8 : N < 8 := by
        by_cases c : N = 8
        · exact absurd hb3 (h8 c)
        · omega
      obtain ⟨e1, e2, e3, e4, e5, e6, e7, e8, e9, -⟩ := id x3
      have hr3 := h3.r
      repeat refine ⟨hr3, ?_⟩
      refine k_good1 hr3 h3.2.2.1.2.2.1 ⟨fun w => absurd w (by omega), fun _ => ?_⟩
      have evl : v = ((vN V3 - 1 : Nat) : Int) := ev
      rcases i10 with ⟨j0, j1, j2, j3⟩ | ⟨I, l, k1, k2, k3, k4, k5, k6, k7, k8, k9⟩
      · -- the first one
        refine ⟨fun w => absurd w (by omega), fun _ => u59_10 ⟨fun _ => u59_11 ?_, fun w => absurd (by omega) w⟩⟩
        rw [am_w_s (by omega), evl]
        refine more c3 V3 _ (vN V3 - 1) (N + 1) _ h3 s23 ⟨i1.tr (e1.lw (by omega)), by omega, by omega, e3, by rw [e5]; exact i5, by rw [e6]; exact i6, by rw [e7]; exact i7, fun q => by rw [e8 (by rw [i7]; exact q)]; exact i8 q, by omega, Or.inr ⟨[], vN V3 - 1, by simp; omega, rfl, by omega, by omega, ⟨rfl, by show x_n (vT V3) (vN V3 - 1) < 0; rw [e9]; omega⟩, fun q hq => (List.not_mem_nil hq).elim, by omega, e9, ((j3.of_eq (fun i hi => (e1.2.2.1 i hi).1)).app x3.ox (by omega)).mono (fun e he => by rcases he with he | he; exact Or.inl he; exact Or.inr (by simp; omega))⟩⟩ (by omega) e2 (fun si s d' P hME hd' hP => ?_)
        refine mod8 si s d' P hME hd' (fun s1 y4 y10 hME1 he1 => w206_8 (mg si s1 d' _ hME1 hd' (fun s4 hME4 he4 _ => ⟨fun w => absurd (hME4.2.1.2.2.1.symm.trans w) (by decide), fun _ => ⟨fun w => absurd j2 w, fun _ => ?_⟩⟩)))
        rw [evl]
        exact hP s4 _ _ _ hME4 (he1.tr he4)
      · -- one behind others
        refine ⟨fun _ => u59_10 ⟨fun w => absurd w (by omega), fun _ => ?_⟩, fun w => absurd k3 w⟩
        repeat refine ⟨hr3, ?_⟩
        have had := h3.xa
        obtain ⟨h0, -, -, -, -, ⟨p1, p2, p3⟩, -⟩ := id h3.1.2.2.2
        rw [had.1, p1, p2, p3, k2]
        have h120 := h3.2.2.2.1.2.1
        refine ⟨had.2, rfl, by omega, by omega, fun c4 e4' => u59_11 ?_⟩
        rw [am_w_s (by omega), evl]
        rw [evl] at e4'
        have h4 : CE c4 pl b n K R (v_row V3 l (r_n (vT V3 l) ((vN V3 - 1 : Nat) : Int))) := by rw [e4']; exact h3.nx (by omega)
        have s4 : c_sm (eW pl R) c c4 := s23.tr (by rw [e4']; exact c_sm.u _ (by unfold eW; omega) _ _)
        have e2' : eY K (vN Vk) Vk V3 := e1
        have y4 : eY K (vN V) V (v_row V3 l (r_n (vT V3 l) ((vN V3 - 1 : Nat) : Int))) := eY.nx i1 e2' (Nat.le_refl _) (by omega) k4
        have tl : vT V3 l = vT Vk l := (e1.2.2.1 l (by omega)).1
        refine more c4 (v_row V3 l (r_n (vT V3 l) ((vN V3 - 1 : Nat) : Int))) _ (vN V3 - 1) (N + 1) _ h4 s4 ⟨y4, by show vN V1 ≤ vN V3; omega, by show vA V1 < vA V3; omega, e3, by show vD V3 = vD V; rw [e5]; exact i5, by show vS V3 = vS V; rw [e6]; exact i6, by show vM V3 = vM V; rw [e7]; exact i7, fun q => by show vG V3 = vG V; rw [e8 (by rw [i7]; exact q)]; exact i8 q, by omega, Or.inr ⟨I ++ [l], vN V3 - 1, by rw [List.length_append]; show I.length + 1 + 1 = N + 1; omega, rfl, k3, by show vN V3 - 1 + 1 = vN V3; omega, ?_, fun q hq => ?_, by omega, ?_, (xo.nx k9 x3 k4).mono (fun e he => ?_)⟩⟩ (by omega) e2 (fun si s d' P hME hd' hP => ?_)
        · refine x_li_snoc (T := vT Vk) I fst k5 ?_ (fun i hi => ?_) ?_
          · show x_n (x_up (vT V3) l _) l = _
            unfold x_n; rw [x_up_eq]; rfl
          · show x_n (x_up (vT V3) l _) i = _
            have := k6 i hi
            unfold x_n; rw [x_up_ne _ (by omega), (e1.2.2.1 i (by omega)).1]
          · show x_n (x_up (vT V3) l _) (vN V3 - 1) < 0
            have : x_n (x_up (vT V3) l (r_n (vT V3 l) ((vN V3 - 1 : Nat) : Int))) (vN V3 - 1) = x_n (vT V3) (vN V3 - 1) := by unfold x_n; rw [x_up_ne _ (by omega)]
            rw [this, e9]; omega
        · rcases List.mem_append.mp hq with hq | hq
          · have := k6 q hq; omega
          · have := List.mem_singleton.mp hq; omega
        · show x_n (x_up (vT V3) l _) (vN V3 - 1) = -1
          have : x_n (x_up (vT V3) l (r_n (vT V3 l) ((vN V3 - 1 : Nat) : Int))) (vN V3 - 1) = x_n (vT V3) (vN V3 - 1) := by unfold x_n; rw [x_up_ne _ (by omega)]
          rw [this, e9]
        · rcases he with (he | he) | he
          · exact Or.inl he
          · exact Or.inr (List.mem_append.mpr (Or.inl he))
          · exact Or.inr (List.mem_append.mpr (Or.inr (List.mem_singleton.mpr (by omega))))
        · refine mod8 si s d' P hME hd' (fun s1 y4 y10 hME1 he1 => w206_8 (mg si s1 d' _ hME1 hd' (fun s4 hME4 he4 _ => ⟨fun w => absurd (hME4.2.1.2.2.1.symm.trans w) (by decide), fun _ => ⟨fun _ => w206_9 ⟨fun w => absurd (hME4.2.1.2.2.1.symm.trans w) (by decide), fun _ => ?_⟩, fun w => absurd (by omega) w⟩⟩)))
          rw [k2, evl]
          refine ⟨by omega, by omega, fun s5 e5' => hP s5 _ _ _ (hME4.row (by omega) (fun q j hq => ?_) ?_ ?_) (he1.tr (he4.tr (by rw [e5']; exact eF.u (by omega))))⟩
          · rw [e5']; unfold ms_u; rw [if_neg (by omega)]
          · obtain ⟨r1, r2, r3, r4, r5, r6, r7, r8, r9⟩ := (hME4.2.2.1.2.2 l (by omega)).1
            unfold mr
            rw [e5']
            refine ⟨by rw [ms_u_f _ _ _ (by omega)]; exact r1, by rw [ms_u_f _ _ _ (by omega)]; exact r2, by rw [ms_u_f _ _ _ (by omega)]; exact r3, by rw [ms_u_f _ _ _ (by omega), ms_u_f _ _ _ (by omega)]; exact r4, by rw [ms_u_f _ _ _ (by omega)]; exact r5, by rw [ms_u_eq]; rfl, by rw [ms_u_f _ _ _ (by omega), ms_u_f _ _ _ (by omega)]; exact r7, ?_, r9⟩
            show (-1 : Int) ≤ ((vN V3 - 1 : Nat) : Int)
            omega
          · rw [e5', ms_u_f _ _ _ (by omega)]
    · have hr3 := hf.1
      repeat refine ⟨hr3, ?_⟩
      refine k_good0 hr3 hf.nz ⟨fun _ => kt_12 hf (by omega) (finF c3 f p hf s23 (fun si s d' P hME hd' hP => ?_)), fun w => absurd rfl w⟩
      refine mod8 si s d' P hME hd' (fun s1 y4 y10 hME1 he1 => w206_8 (mf si s1 d' _ hME1 hd' (fun v' s4 hf4 he4 => ⟨fun _ => w206_9 ⟨fun _ => hP _ _ _ _ _ _ _ _ _ _ s4 hf4 (he1.tr he4), fun w => absurd hf4.1 w⟩, fun w => absurd hf4.1 w⟩)))
  -- the ninth
  refine u59_7 ⟨fun w => absurd w (by omega), fun _ => ?_⟩
  repeat refine ⟨hr2, ?_⟩
  refine k_good1 hr2 hf2 ⟨fun w => absurd w (by omega), fun _ => ⟨fun w => b8 (fun q => absurd q (by omega)), fun w => ?_⟩⟩
  have hN8 : N = 8 := by omega
  repeat refine ⟨hr2, ?_⟩
  refine k_beginsSum h2 (by omega) (fun q => ⟨fun w => absurd w (by omega), fun _ => ?_⟩) (fun q => ⟨fun _ => b8 (fun _ => q), fun w => absurd rfl w⟩)
  repeat refine ⟨hr2, ?_⟩
  rw [h2.t.1, ha2]
  refine ⟨h2.t.2, k_tplace h2.2.1 hl2.1 ⟨hr2, k_fail hr2 hf2 (u59_8 ?_)⟩⟩
  have hf := h2.cf (x := 7) (y := (tk_p b n (vA Vk) : Int)) (by omega)
  have hrf := hf.1
  repeat refine ⟨hrf, ?_⟩
  refine f_sum pl 7 _ _ d _ hf (by omega) ?_
  repeat refine ⟨hrf, ?_⟩
  refine k_good0 hrf hf.nz ⟨fun _ => kt_12 hf (by omega) (finF _ 7 _ hf (s2.tr c_fl_sm) (fun si s d' P hME hd' hP => ?_)), fun w => absurd rfl w⟩
  refine hm si s d' P hME hd' (fun s1 y4 y10 hME1 he1 => w206_7 ⟨fun w => absurd w (by omega), fun _ => ⟨fun w => absurd (hME1.2.1.2.2.1.symm.trans w) (by decide), fun _ => ?_⟩⟩)
  rw [am_w_s (by omega)]
  have hsl := hME1.le
  refine ⟨fun w => absurd (by omega) w, fun _ => k_mbegins hME1 (by omega) (fun _ => ⟨fun w => absurd w (by omega), fun _ => ⟨by rw [hME1.2.1.1]; omega, by rw [hME1.2.1.1]; omega, hME1.tell ?_⟩⟩) (fun q2 => absurd (Or.inl q) q2)⟩
  rw [hME1.pl]
  have hf1 := hME1.mf (f := 7) (p := (tk_p b n (vA Vk) : Int))
  refine w206_8 (mf_sum 7 _ _ d' _ hf1 (by omega) (fun v' s4 e4 => ?_))
  have hf4 : MF s4 7 (tk_p b n (vA Vk)) := hf1.fr (fun q h1 h2 => e4 q 0 (by omega))
  exact ⟨fun _ => w206_9 ⟨fun _ => hP _ _ _ _ _ _ _ _ _ _ s4 hf4 (he1.tr (eF.fl.tr (fun q j hq => e4 q j (by omega)))), fun w => absurd hf4.1 w⟩, fun w => absurd hf4.1 w⟩
end
