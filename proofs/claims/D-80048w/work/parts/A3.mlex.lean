set_option maxRecDepth 100000
/-! the model: tokens -/
section
variable {s s1 : ms_S} {d n : Nat} {Q : Int → ms_S → Prop} {x : Int}
theorem k_mlet (h1 : lx_L x → Q 1 s) (h0 : ¬ lx_L x → Q 0 s) : md_isLetter d x s Q := by
  unfold lx_L at h1 h0
  exact w191_e ⟨fun c => w191_1 (w191_2 (h0 (by omega))), fun c => ⟨fun c2 => w191_1 (w191_2 (h0 (by omega))), fun c2 => w191_2 (h1 (by omega))⟩⟩
theorem k_mdig (h1 : lx_D x → Q 1 s) (h0 : ¬ lx_D x → Q 0 s) : md_isDigit d x s Q := by
  unfold lx_D at h1 h0
  exact w192_e ⟨fun c => w192_1 (w192_2 (h0 (by omega))), fun c => ⟨fun c2 => w192_1 (w192_2 (h0 (by omega))), fun c2 => w192_2 (h1 (by omega))⟩⟩
def tkM (s : ms_S) (b : Int → Int) (n t : Nat) : Prop := ∀ j : Nat, j < t → s 14 j = tk_s b n j ∧ s 15 j = tk_p b n j ∧ s 16 j = ((tk_e b n j - tk_p b n j : Nat) : Int) ∧ s 17 j = tk_v b n j ∧ tk_p b n j < n
theorem tkM.fr {b : Int → Int} {t : Nat} (h : tkM s b n t) (e : ∀ (q : Nat) (j : Nat), j < t → s1 q j = s q j) : tkM s1 b n t := by
  intro j hj
  rw [e 14 j hj, e 15 j hj, e 16 j hj, e 17 j hj]
  exact h j hj
theorem k_tokens {b : Int → Int} (hB : ∀ i, s 2 i = b i) (hn : s 3 0 = n) (h2 : n ≤ 2000) (hb : ∀ i : Nat, i < n → -128 ≤ b i ∧ b i ≤ 127)
    (kk : ∀ (s' : ms_S) (M : Nat), (∀ (q : Nat) (j : Int), q ≠ 14 → q ≠ 15 → q ≠ 16 → q ≠ 17 → s' q j = s q j) → M ≤ n → tkM s' b n M → tk_p b n M = n → s' 14 M = 0 → s' 15 M = n → s' 16 M = 0 → Q 0 s') : md_tokens (d + 1) s Q := by
  refine w190_e ?_
  rw [hn]
  have main : ∀ (m k t : Nat) (s' : ms_S) (x4 x5 x6 x7 x8 : Int), m = n - k → k ≤ n → t ≤ k → lx_end b n lx_B k = tk_p b n t → (∀ (q : Nat) (j : Int), q ≠ 14 → q ≠ 15 → q ≠ 16 → q ≠ 17 → s' q j = s q j) → tkM s' b n t → mw (d + 1) 190 (am_blk 190 1) [159, n, t, k, x4, x5, x6, x7, x8] [] s' Q := by
    intro m
    induction m using Nat.strongRecOn with
    | _ m ih =>
    intro k t s' x4 x5 x6 x7 x8 hm hk ht hp fr hT
    have hB' : ∀ i, s' 2 i = b i := fun i => by rw [fr _ _ (by omega) (by omega) (by omega) (by omega)]; exact hB i
    by_cases ck : k = n
    · subst ck
      refine w190_1 ⟨fun _ => ⟨by omega, by omega, fun s1 e1 => ⟨by omega, by omega, fun s2 e2 => ⟨by omega, by omega, fun s3 e3 => ?_⟩⟩⟩, fun c => absurd (Int.le_refl _) c⟩
      rw [lx_end_no (by omega)] at hp
      refine kk s3 t (fun q j h1 h2 h3 h4 => by rw [e3, ms_u_f _ _ _ h3, e2, ms_u_f _ _ _ h2, e1, ms_u_f _ _ _ h1]; exact fr q j h1 h2 h3 h4) ht (hT.fr (fun q j hj => ?_)) hp.symm ?_ ?_ ?_
      · rw [e3, e2, e1]; unfold ms_u
        rw [if_neg (by omega), if_neg (by omega), if_neg (by omega)]
      · rw [e3, ms_u_f _ _ _ (by omega), e2, ms_u_f _ _ _ (by omega), e1, ms_u_eq]
      · rw [e3, ms_u_f _ _ _ (by omega), e2, ms_u_eq]
      · rw [e3, ms_u_eq]
    have hkn : k < n := by omega
    by_cases cb : lx_B (b k)
    · have go : mw (d + 1) 190 (am_blk 190 2) [159, n, t, k, b k, x5, x6, x7, x8] [] s' Q := by
        refine w190_2 (w190_36 ?_)
        rw [am_w_s (by omega)]
        exact ih (n - (k + 1)) (by omega) (k + 1) t s' _ _ _ _ _ rfl (by omega) (by omega) (by rw [← hp, lx_end_go hkn cb]) fr hT
      refine w190_1 ⟨fun c => absurd c (by omega), fun _ => ⟨by omega, by omega, ?_⟩⟩
      rw [hB']
      unfold lx_B at cb
      exact ⟨fun _ => go, fun c1 => ⟨fun _ => go, fun c2 => ⟨fun _ => go, fun c3 => ⟨fun c4 => absurd cb (by omega), fun _ => go⟩⟩⟩⟩
    have hpt : tk_p b n t = k := by rw [← hp, lx_end_no (fun h => cb h.2)]
    have htok : ∀ j : Nat, j < t → ((j : Int) ≠ (t : Int)) := fun j hj => by omega
    -- behind a token
    have tail : ∀ (e : Nat) (s1 : ms_S) (x4 x6 x7 x8 : Int), k < e → e ≤ n → e = tk_e b n t → (∀ (q : Nat) (j : Int), q ≠ 14 → q ≠ 15 → q ≠ 16 → q ≠ 17 → s1 q j = s q j) → tkM s1 b n t → s1 14 t = tk_s b n t → s1 15 t = k → s1 17 t = tk_v b n t → mw (d + 1) 190 (am_blk 190 35) [159, n, t, e, x4, k, x6, x7, x8] [] s1 Q := by
      intro e s1 x4 x6 x7 x8 he hen hte fr1 hT1 h14 h15 h17
      refine w190_35 ⟨by omega, by omega, fun s2 e2 => w190_36 ?_⟩
      rw [am_w_in (by omega) (by omega)] at e2
      rw [am_w_s (by omega)]
      refine ih (n - e) (by omega) e (t + 1) s2 _ _ _ _ _ rfl hen (by omega) ?_ (fun q j h1 h2 h3 h4 => by rw [e2, ms_u_f _ _ _ h3]; exact fr1 q j h1 h2 h3 h4) (fun j hj => ?_)
      · show _ = lx_end b n lx_B (tk_e b n t)
        rw [← hte]
      · by_cases c : j = t
        · subst c
          refine ⟨?_, ?_, ?_, ?_, by omega⟩
          · rw [e2, ms_u_f _ _ _ (by omega)]; exact h14
          · rw [e2, ms_u_f _ _ _ (by omega), h15, hpt]
          · rw [e2, ms_u_eq, ← hte, hpt]; omega
          · rw [e2, ms_u_f _ _ _ (by omega)]; exact h17
        · have := hT1 j (by omega)
          rw [e2]
          refine ⟨?_, ?_, ?_, ?_, this.2.2.2.2⟩
          · rw [ms_u_f _ _ _ (by omega)]; exact this.1
          · rw [ms_u_f _ _ _ (by omega)]; exact this.2.1
          · rw [ms_u_i _ (by omega)]; exact this.2.2.1
          · rw [ms_u_f _ _ _ (by omega)]; exact this.2.2.2.1
    have pre : ∀ (s1 : ms_S) (q : Nat) (v : Int), tkM s1 b n t → tkM (ms_u s1 q t v) b n t := by
      intro s1 q v h
      exact h.fr (fun q' j hj => by unfold ms_u; rw [if_neg (by omega)])
    have nb := cb
    unfold lx_B at nb
    refine w190_1 ⟨fun c => absurd c (by omega), fun _ => ⟨by omega, by omega, ?_⟩⟩
    rw [hB']
    refine ⟨fun c => absurd (Or.inl c) nb, fun _ => ⟨fun c => absurd (Or.inr (Or.inl c)) nb, fun _ => ⟨fun c => absurd (Or.inr (Or.inr (Or.inl c))) nb, fun _ => ⟨fun _ => ⟨by omega, by omega, fun s4 e4 => ⟨by omega, by omega, fun s5 e5 => ?_⟩⟩, fun c => absurd (Or.inr (Or.inr (Or.inr (Classical.not_not.mp c)))) nb⟩⟩⟩⟩
    have fr5 : ∀ (q : Nat) (j : Int), q ≠ 14 → q ≠ 15 → q ≠ 16 → q ≠ 17 → s5 q j = s q j := fun q j h1 h2 h3 h4 => by rw [e5, ms_u_f _ _ _ h4, e4, ms_u_f _ _ _ h2]; exact fr q j h1 h2 h3 h4
    have hT5 : tkM s5 b n t := by rw [e5, e4]; exact pre _ _ _ (pre _ _ _ hT)
    have h155 : s5 15 t = k := by rw [e5, ms_u_f _ _ _ (by omega), e4, ms_u_eq]
    have h175 : s5 17 t = 0 := by rw [e5, ms_u_eq]
    have hB5 : ∀ i, s5 2 i = b i := fun i => by rw [fr5 _ _ (by omega) (by omega) (by omega) (by omega)]; exact hB i
    refine k_mlet (fun hl => ⟨fun c => absurd c (by omega), fun _ => ?_⟩) (fun hl => ⟨fun _ => ?_, fun c => absurd rfl c⟩)
    · -- a word
      have etok := lx_tok_w (b := b) hkn hl
      have ee : tk_e b n t = lx_end b n lx_W k := by unfold tk_e; rw [hpt, etok]
      have es : tk_s b n t = if 12 < lx_end b n lx_W k - k then 3 else 1 := by unfold tk_s; rw [hpt, etok]
      have ev : tk_v b n t = 0 := by unfold tk_v; rw [hpt, etok]
      obtain ⟨g1, g2, g3, g4⟩ := lx_end_ge (b := b) (n := n) (f := lx_W) _ k rfl
      have hke : k < lx_end b n lx_W k := by
        have h1 := lx_end_go (b := b) (f := lx_W) hkn (Or.inl hl)
        have h2 := (lx_end_ge (b := b) (n := n) (f := lx_W) _ (k + 1) rfl).1
        omega
      have loop : ∀ (r e : Nat) (x6 x7 x8 : Int), r = n - e → k ≤ e → e ≤ n → lx_end b n lx_W e = lx_end b n lx_W k → mw (d + 1) 190 (am_blk 190 4) [159, n, t, e, b k, k, x6, x7, x8] [] s5 Q := by
        intro r
        induction r with
        | zero =>
          intro e x6 x7 x8 hr hke1 hen hee
          have : e = n := by omega
          subst this
          rw [lx_end_no (by omega)] at hee
          refine w190_4 ⟨fun _ => w190_6 ?_, fun c => absurd (Int.le_refl _) c⟩
          rw [am_w_in (by omega) (by omega)]
          refine ⟨fun c => w190_8 ⟨by omega, by omega, fun s6 e6 => ?_⟩, fun c => w190_8 ⟨by omega, by omega, fun s6 e6 => ?_⟩⟩
          · refine tail e s6 _ _ _ _ (by omega) (by omega) (by omega) (fun q j h1 h2 h3 h4 => by rw [e6, ms_u_f _ _ _ h1]; exact fr5 q j h1 h2 h3 h4) (by rw [e6]; exact pre _ _ _ hT5) (by rw [e6, ms_u_eq, es, if_neg (by omega)]) (by rw [e6, ms_u_f _ _ _ (by omega)]; exact h155) (by rw [e6, ms_u_f _ _ _ (by omega), ev]; exact h175)
          · refine tail e s6 _ _ _ _ (by omega) (by omega) (by omega) (fun q j h1 h2 h3 h4 => by rw [e6, ms_u_f _ _ _ h1]; exact fr5 q j h1 h2 h3 h4) (by rw [e6]; exact pre _ _ _ hT5) (by rw [e6, ms_u_eq, es, if_pos (by omega)]) (by rw [e6, ms_u_f _ _ _ (by omega)]; exact h155) (by rw [e6, ms_u_f _ _ _ (by omega), ev]; exact h175)
        | succ r ihr =>
          intro e x6 x7 x8 hr hke1 hen hee
          have hen1 : e < n := by omega
          have nx : lx_W (b e) → mw (d + 1) 190 (am_blk 190 5) [159, n, t, e, b k, k, x6, x7, x8] [] s5 Q := by
            intro hw
            refine w190_5 ?_
            rw [am_w_s (by omega)]
            exact ihr (e + 1) _ _ _ (by omega) (by omega) (by omega) (by rw [← hee, lx_end_go hen1 hw])
          refine w190_4 ⟨fun c => absurd c (by omega), fun _ => ⟨by omega, by omega, ?_⟩⟩
          rw [hB5]
          refine k_mlet (fun hl1 => ⟨fun _ => nx (Or.inl hl1), fun c => absurd (by omega : (1 : Int) ≠ 0) c⟩) (fun hl1 => ⟨fun c => absurd rfl c, fun _ => ⟨by omega, by omega, ?_⟩⟩)
          rw [hB5]
          refine k_mdig (fun hd1 => ⟨fun c => absurd c (by omega), fun _ => nx (Or.inr hd1)⟩) (fun hd1 => ⟨fun _ => w190_6 ?_, fun c => absurd rfl c⟩)
          rw [lx_end_no (fun h => by rcases h.2 with q | q; exact hl1 q; exact hd1 q)] at hee
          rw [am_w_in (by omega) (by omega)]
          refine ⟨fun c => w190_8 ⟨by omega, by omega, fun s6 e6 => ?_⟩, fun c => w190_8 ⟨by omega, by omega, fun s6 e6 => ?_⟩⟩
          · refine tail e s6 _ _ _ _ (by omega) (by omega) (by omega) (fun q j h1 h2 h3 h4 => by rw [e6, ms_u_f _ _ _ h1]; exact fr5 q j h1 h2 h3 h4) (by rw [e6]; exact pre _ _ _ hT5) (by rw [e6, ms_u_eq, es, if_neg (by omega)]) (by rw [e6, ms_u_f _ _ _ (by omega)]; exact h155) (by rw [e6, ms_u_f _ _ _ (by omega), ev]; exact h175)
          · refine tail e s6 _ _ _ _ (by omega) (by omega) (by omega) (fun q j h1 h2 h3 h4 => by rw [e6, ms_u_f _ _ _ h1]; exact fr5 q j h1 h2 h3 h4) (by rw [e6]; exact pre _ _ _ hT5) (by rw [e6, ms_u_eq, es, if_pos (by omega)]) (by rw [e6, ms_u_f _ _ _ (by omega)]; exact h155) (by rw [e6, ms_u_f _ _ _ (by omega), ev]; exact h175)
      exact loop (n - k) k _ _ _ rfl (Nat.le_refl k) hk rfl
    · refine k_mdig (fun hd => ⟨fun c => absurd c (by omega), fun _ => ?_⟩) (fun hd => ⟨fun _ => ?_, fun c => absurd rfl c⟩)
      · -- a number
        have etok := lx_tok_n (b := b) hkn hd
        have ee : tk_e b n t = lx_end b n lx_D k := by unfold tk_e; rw [hpt, etok]
        have es : tk_s b n t = if (lx_nm b n k true 0).1 = false ∨ (lx_end b n lx_D k < n ∧ lx_L (b (lx_end b n lx_D k))) then 3 else 2 := by unfold tk_s; rw [hpt, etok]
        have ev : tk_v b n t = (lx_nm b n k true 0).2 := by unfold tk_v; rw [hpt, etok]
        have hke : k < lx_end b n lx_D k := by
          have h1 := lx_end_go (b := b) (f := lx_D) hkn hd
          have h2 := (lx_end_ge (b := b) (n := n) (f := lx_D) _ (k + 1) rfl).1
          omega
        -- at its end
        have fin : ∀ (e : Nat) (s6 : ms_S) (g : Bool) (v : Int) (x6 x7 x8 : Int), e = lx_end b n lx_D k → e ≤ n → lx_nm b n k true 0 = (g, v) → x6 = (if g = true then 1 else 0) → (∀ (q : Nat) (j : Int), q ≠ 14 → q ≠ 15 → q ≠ 16 → q ≠ 17 → s6 q j = s q j) → tkM s6 b n t → s6 15 t = k → s6 17 t = v → mw (d + 1) 190 (am_blk 190 16) [159, n, t, e, b k, k, x6, x7, x8] [] s6 Q := by
          intro e s6 g v x6 x7 x8 he hen hnm hx6 fr6 hT6 h156 h176
          have hB6 : ∀ i, s6 2 i = b i := fun i => by rw [fr6 _ _ (by omega) (by omega) (by omega) (by omega)]; exact hB i
          rw [hnm, ← he] at es
          rw [hnm] at ev
          have b19 : ∀ z : Int, tk_s b n t = z → mw (d + 1) 190 (am_blk 190 19) [159, n, t, e, b k, k, x6, x7, x8] [z, t, 169] s6 Q := by
            intro z hz
            refine w190_19 ⟨by omega, by omega, fun s7 e7 => ?_⟩
            refine tail e s7 _ _ _ _ (by omega) (by omega) (by omega) (fun q j h1 h2 h3 h4 => by rw [e7, ms_u_f _ _ _ h1]; exact fr6 q j h1 h2 h3 h4) (by rw [e7]; exact pre _ _ _ hT6) (by rw [e7, ms_u_eq, hz]) (by rw [e7, ms_u_f _ _ _ (by omega)]; exact h156) (by rw [e7, ms_u_f _ _ _ (by omega), ev]; exact h176)
          cases g with
          | false =>
            rw [if_pos (Or.inl rfl)] at es
            exact w190_16 ⟨fun _ => w190_17 (b19 3 es), fun c => absurd hx6 c⟩
          | true =>
            refine w190_16 ⟨fun c => absurd (hx6.symm.trans c) (by decide), fun _ => ⟨fun c => ?_, fun c => ⟨by omega, by omega, ?_⟩⟩⟩
            · rw [if_neg (fun h => by rcases h with h | h; cases h; omega)] at es
              exact w190_18 (b19 2 es)
            · rw [hB6]
              refine k_mlet (fun hl1 => ⟨fun c => absurd c (by omega), fun _ => ?_⟩) (fun hl1 => ⟨fun _ => ?_, fun c => absurd rfl c⟩)
              · rw [if_pos (Or.inr ⟨by omega, hl1⟩)] at es
                exact w190_17 (b19 3 es)
              · rw [if_neg (fun h => by rcases h with h | h; cases h; exact hl1 h.2)] at es
                exact w190_18 (b19 2 es)
        have loop : ∀ (r e : Nat) (s6 : ms_S) (g : Bool) (v : Int) (x6 x7 x8 : Int), r = n - e → k ≤ e → e ≤ n → lx_end b n lx_D e = lx_end b n lx_D k → lx_nm b n e g v = lx_nm b n k true 0 → 0 ≤ v → v ≤ 9223372036854775807 → x6 = (if g = true then 1 else 0) → (∀ (q : Nat) (j : Int), q ≠ 14 → q ≠ 15 → q ≠ 16 → q ≠ 17 → s6 q j = s q j) → tkM s6 b n t → s6 15 t = k → s6 17 t = v → mw (d + 1) 190 (am_blk 190 10) [159, n, t, e, b k, k, x6, x7, x8] [] s6 Q := by
          intro r
          induction r with
          | zero =>
            intro e s6 g v x6 x7 x8 hr hke1 hen hee hnm hv0 hv1 hx6 fr6 hT6 h156 h176
            have hno : ¬ (e < n ∧ lx_D (b e)) := by omega
            rw [lx_end_no hno] at hee
            rw [lx_nm_no hno] at hnm
            exact w190_10 ⟨fun _ => fin e s6 g v _ _ _ hee hen hnm.symm hx6 fr6 hT6 h156 h176, fun c => absurd (by omega) c⟩
          | succ r ihr =>
            intro e s6 g v x6 x7 x8 hr hke1 hen hee hnm hv0 hv1 hx6 fr6 hT6 h156 h176
            have hen1 : e < n := by omega
            have hB6 : ∀ i, s6 2 i = b i := fun i => by rw [fr6 _ _ (by omega) (by omega) (by omega) (by omega)]; exact hB i
            refine w190_10 ⟨fun c => absurd c (by omega), fun _ => ⟨by omega, by omega, ?_⟩⟩
            rw [hB6]
            refine k_mdig (fun hd1 => ⟨fun c => absurd c (by omega), fun _ => ⟨by omega, by omega, ?_⟩⟩) (fun hd1 => ⟨fun _ => ?_, fun c => absurd rfl c⟩)
            · rw [h176]
              obtain ⟨l1, l2, -⟩ := lc_iff v 922337203685477580
              have hbe := hb e hen1
              have edig : am_w (b e - 48) = b e - 48 := am_w_in (by omega) (by omega)
              rw [hB6, edig]
              have hD := hd1
              unfold lx_D at hD
              have yes : g = true ∧ (v < 922337203685477580 ∨ (v = 922337203685477580 ∧ b e - 48 ≤ 7)) → mw (d + 1) 190 (am_blk 190 11) [159, n, t, e, b k, k, x6, b e - 48, x8] [] s6 Q := by
                intro hg
                refine w190_11 (w190_13 ⟨fun c => absurd c (by omega), fun _ => ⟨by omega, by omega, w190_15 ⟨by omega, by omega, fun s7 e7 => ?_⟩⟩⟩)
                rw [h176, am_x_in (x := v * 10) (by omega) (by omega), am_x_in (by omega) (by omega)] at e7
                rw [am_w_s (by omega)]
                refine ihr (e + 1) s7 true (10 * v + (b e - 48)) _ _ _ (by omega) (by omega) (by omega) (by rw [← hee, lx_end_go hen1 hd1]) (by rw [← hnm, lx_nm_yes hen1 hd1 hg]) (by omega) (by omega) rfl (fun q j h1 h2 h3 h4 => by rw [e7, ms_u_f _ _ _ h4]; exact fr6 q j h1 h2 h3 h4) (by rw [e7]; exact pre _ _ _ hT6) (by rw [e7, ms_u_f _ _ _ (by omega)]; exact h156) (by rw [e7, ms_u_eq]; omega)
              have no : ¬ (g = true ∧ (v < 922337203685477580 ∨ (v = 922337203685477580 ∧ b e - 48 ≤ 7))) → mw (d + 1) 190 (am_blk 190 12) [159, n, t, e, b k, k, x6, b e - 48, x8] [] s6 Q := by
                intro hg
                refine w190_12 (w190_13 ⟨fun _ => ⟨by omega, by omega, w190_15 ⟨by omega, by omega, fun s7 e7 => ?_⟩⟩, fun c => absurd rfl c⟩)
                rw [h176] at e7
                rw [am_w_s (by omega)]
                refine ihr (e + 1) s7 false v _ _ _ (by omega) (by omega) (by omega) (by rw [← hee, lx_end_go hen1 hd1]) (by rw [← hnm, lx_nm_bad hen1 hd1 hg]) hv0 hv1 rfl (fun q j h1 h2 h3 h4 => by rw [e7, ms_u_f _ _ _ h4]; exact fr6 q j h1 h2 h3 h4) (by rw [e7]; exact pre _ _ _ hT6) (by rw [e7, ms_u_f _ _ _ (by omega)]; exact h156) (by rw [e7, ms_u_eq])
              cases g with
              | false =>
                exact ⟨fun _ => no (fun h => by cases h.1), fun c => absurd hx6 c⟩
              | true =>
                refine ⟨fun c => absurd (hx6.symm.trans c) (by decide), fun _ => ⟨by omega, by omega, fun c => yes ⟨rfl, Or.inl (l2.mp c)⟩, fun c => ⟨by omega, by omega, fun c2 => no (fun h => ?_), fun c2 => ⟨fun c3 => no (fun h => ?_), fun c3 => yes ⟨rfl, Or.inr ⟨l1.mp (Classical.not_not.mp c2), by omega⟩⟩⟩⟩⟩⟩
                · rcases h.2 with h | h
                  · exact c (l2.mpr h)
                  · exact c2 (l1.mpr h.1)
                · rcases h.2 with h | h
                  · exact c (l2.mpr h)
                  · omega
            · have hno : ¬ (e < n ∧ lx_D (b e)) := fun h => hd1 h.2
              rw [lx_end_no hno] at hee
              rw [lx_nm_no hno] at hnm
              exact fin e s6 g v _ _ _ hee hen hnm.symm hx6 fr6 hT6 h156 h176
        exact loop (n - k) k s5 true 0 _ _ _ rfl (Nat.le_refl k) hk rfl rfl (by omega) (by omega) rfl fr5 hT5 h155 h175
      · -- a sign
        have sgn : ∀ (D z : Int) (x6 x7 x8 y8 : Int), D = lx_two (b k) (if k + 1 < n then b (k + 1 : Nat) else 0) → (z = if D ≠ 0 then D else if lx_S (b k) then b k else 3) → mw (d + 1) 190 (am_blk 190 32) [159, n, t, k, b k, k, x6, D, x8] [z, t, 169] s5 Q := by
          intro D z x6 x7 x8 y8 hD hz
          refine w190_32 ⟨by omega, by omega, fun s6 e6 => ?_⟩
          have fr6 : ∀ (q : Nat) (j : Int), q ≠ 14 → q ≠ 15 → q ≠ 16 → q ≠ 17 → s6 q j = s q j := fun q j h1 h2 h3 h4 => by rw [e6, ms_u_f _ _ _ h1]; exact fr5 q j h1 h2 h3 h4
          by_cases cD : D = 0
          · have etok := lx_tok_1 (b := b) hkn hl hd (by rw [← hD]; exact fun h => h cD)
            rw [if_neg (fun h => h cD)] at hz
            refine ⟨fun _ => w190_34 ?_, fun c => absurd cD c⟩
            rw [am_w_s (by omega)]
            refine tail (k + 1) s6 _ _ _ _ (by omega) (by omega) (by unfold tk_e; rw [hpt, etok]) fr6 (by rw [e6]; exact pre _ _ _ hT5) (by rw [e6, ms_u_eq, hz]; unfold tk_s; rw [hpt, etok]) (by rw [e6, ms_u_f _ _ _ (by omega)]; exact h155) (by rw [e6, ms_u_f _ _ _ (by omega), h175]; unfold tk_v; rw [hpt, etok])
          · have etok := lx_tok_2 (b := b) hkn hl hd (by rw [← hD]; exact cD)
            have hle := (lx_tok_go (b := b) hkn).2.1
            rw [etok] at hle
            rw [if_pos cD] at hz
            refine ⟨fun c => absurd c cD, fun _ => w190_34 ?_⟩
            rw [show am_w ((k : Int) + 2) = ((k + 2 : Nat) : Int) by rw [am_w_in (by omega) (by omega)]; omega]
            refine tail (k + 2) s6 _ _ _ _ (by omega) hle (by unfold tk_e; rw [hpt, etok]) fr6 (by rw [e6]; exact pre _ _ _ hT5) (by rw [e6, ms_u_eq, hz, hD]; unfold tk_s; rw [hpt, etok]) (by rw [e6, ms_u_f _ _ _ (by omega)]; exact h155) (by rw [e6, ms_u_f _ _ _ (by omega), h175]; unfold tk_v; rw [hpt, etok])
        have b29 : ∀ (D z : Int) (x6 x7 x8 : Int), D = lx_two (b k) (if k + 1 < n then b (k + 1 : Nat) else 0) → (z = if lx_S (b k) then 1 else 0) → mw (d + 1) 190 (am_blk 190 29) [159, n, t, k, b k, k, x6, D, x8] [z] s5 Q := by
          intro D z x6 x7 x8 hD hz
          refine w190_29 ⟨fun cD => ⟨fun cz => sgn D 3 _ 0 _ 0 hD ?_, fun cz => sgn D (b k) _ 0 _ 0 hD ?_⟩, fun cD => sgn D D _ 0 _ 0 hD ?_⟩
          · rw [if_neg (fun h => h cD)]
            by_cases cS : lx_S (b k)
            · rw [if_pos cS] at hz; omega
            · rw [if_neg cS]
          · rw [if_neg (fun h => h cD)]
            by_cases cS : lx_S (b k)
            · rw [if_pos cS]
            · rw [if_neg cS] at hz; exact absurd hz cz
          · rw [if_pos cD]
        have b26 : ∀ (D : Int) (x6 x7 x8 : Int), D = lx_two (b k) (if k + 1 < n then b (k + 1 : Nat) else 0) → mw (d + 1) 190 (am_blk 190 26) [159, n, t, k, b k, k, x6, x7, x8] [D] s5 Q := by
          intro D x6 x7 x8 hD
          have yes : lx_S (b k) → mw (d + 1) 190 (am_blk 190 27) [159, n, t, k, b k, k, x6, D, x8] [] s5 Q := fun hS => w190_27 (b29 D 1 _ 0 _ hD (by rw [if_pos hS]))
          unfold lx_S at yes
          refine w190_26 ⟨fun c => yes (by omega), fun c1 => ⟨fun c => yes (by omega), fun c2 => ⟨fun c => yes (by omega), fun c3 => ⟨fun c => yes (by omega), fun c4 => ⟨fun c => yes (by omega), fun c5 => ⟨fun c => yes (by omega), fun c6 => ⟨fun c => yes (by omega), fun c7 => ⟨fun c => yes (by omega), fun c8 => ⟨fun c => yes (by omega), fun c9 => ⟨fun c => yes (by omega), fun c10 => ⟨fun c => yes (by omega), fun c11 => ⟨fun c => b29 D 0 _ 0 _ hD ?_, fun c => yes (by omega)⟩⟩⟩⟩⟩⟩⟩⟩⟩⟩⟩⟩
          rw [if_neg (by unfold lx_S; omega)]
        have b22 : ∀ (dd : Int) (x6 x7 x8 : Int), dd = (if k + 1 < n then b (k + 1 : Nat) else 0) → mw (d + 1) 190 (am_blk 190 22) [159, n, t, k, b k, k, x6, x7, x8] [dd] s5 Q := by
          intro dd x6 x7 x8 hdd
          have two : ∀ D : Int, D = lx_two (b k) dd → mw (d + 1) 190 (am_blk 190 26) [159, n, t, k, b k, k, dd, x7, x8] [D] s5 Q := fun D hD => b26 D _ _ _ (by rw [← hdd]; exact hD)
          unfold lx_two at two
          have b24 : ¬ (b k = 60 ∧ dd = 62) → ¬ (b k = 60 ∧ dd = 61) → mw (d + 1) 190 (am_blk 190 24) [159, n, t, k, b k, k, dd, x7, x8] [] s5 Q := by
            intro n1 n2
            refine w190_24 ⟨fun c => w190_25 (two 0 ?_), fun c => ⟨fun c2 => w190_25 (two 0 ?_), fun c2 => two 402 ?_⟩⟩
            · rw [if_neg n1, if_neg n2, if_neg (fun h => c h.1)]
            · rw [if_neg n1, if_neg n2, if_neg (fun h => c2 h.2)]
            · rw [if_neg n1, if_neg n2, if_pos ⟨Classical.not_not.mp c, Classical.not_not.mp c2⟩]
          have b23 : ¬ (b k = 60 ∧ dd = 62) → mw (d + 1) 190 (am_blk 190 23) [159, n, t, k, b k, k, dd, x7, x8] [] s5 Q := by
            intro n1
            refine w190_23 ⟨fun c => b24 n1 (fun h => c h.1), fun c => ⟨fun c2 => b24 n1 (fun h => c2 h.2), fun c2 => two 401 ?_⟩⟩
            rw [if_neg n1, if_pos ⟨Classical.not_not.mp c, Classical.not_not.mp c2⟩]
          refine w190_22 ⟨fun c => b23 (fun h => c h.1), fun c => ⟨fun c2 => b23 (fun h => c2 h.2), fun c2 => two 400 ?_⟩⟩
          rw [if_pos ⟨Classical.not_not.mp c, Classical.not_not.mp c2⟩]
        rw [am_w_s (by omega)]
        refine ⟨fun c => b22 0 _ _ _ (by rw [if_neg (by omega)]), fun c => ⟨by omega, by omega, b22 _ _ _ _ ?_⟩⟩
        rw [if_pos (by omega), hB5]
  exact main (n - 0) 0 0 s _ _ _ _ _ rfl (by omega) (by omega) rfl (fun _ _ _ _ _ _ => rfl) (fun j hj => absurd hj (by omega))
end
