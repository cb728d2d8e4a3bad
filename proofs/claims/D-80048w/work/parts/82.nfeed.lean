set_option maxRecDepth 100000
/-! nodes: feeding -/
section
variable {W W' : nW} {G : nG} {c c' c2 : cs_S} {E E' : Int → bw_L} {P P' : List Int} {o o' o2 : Int → Int} {a b n r x lo : Int} {l m k : rwt} {U L L' R R' F F' V K : List rwt} {Q : Int → cs_S → Prop} {d w D N Nl Nr f : Nat} {τ τl τr : List Int} {t v z1 z2 s wm rb ages x4 : Int} {B : bw_L}
theorem NL_op2 (h237 : ∀ y ∈ gA G, 237 ≤ y) (hga : n_ga G (f + 1) lo n τ N) (hk : n_kind (gX G) n ≠ 0) : NL (gT G) (gsl G) (gX G) W (f + 1) n = n_op (gT G) (gsl G) (gX G) n (NL (gT G) (gsl G) (gX G) W f (n_left (gX G) n)) (if n_right (gX G) n = -1 then [] else NL (gT G) (gsl G) (gX G) W f (n_right (gX G) n)) := by
  rw [NL_op hk (Or.inr trivial)]
  by_cases hr : n_right (gX G) n = -1
  · rw [if_pos hr]
    obtain ⟨-, -, -, -, -, -, -, -, h⟩ := id hga
    have : n_kind (gX G) n = 2 ∨ n_kind (gX G) n = 3 ∨ n_kind (gX G) n = 4 ∨ n_kind (gX G) n = 5 ∨ n_kind (gX G) n = 10 := by
      rcases h with ⟨h0, -⟩ | ⟨h1, -, -, -, -, -, τl, τr, Nl, Nr, gl, gr, -⟩ | ⟨h1, -⟩ | ⟨h1, -⟩ | ⟨h1, -⟩ | ⟨h1, -⟩ | ⟨h1, -, -, Nl, Nr, gl, gr, -⟩ | ⟨h1, -, -, Nr, gl, gr⟩ | ⟨h1, -⟩
      · exact absurd h0 hk
      · have := h237 _ gr.in.1; omega
      · omega
      · omega
      · omega
      · omega
      · have := h237 _ gr.in.1; omega
      · have := h237 _ gr.in.1; omega
      · omega
    unfold n_op
    rcases this with q | q | q | q | q <;> simp [q]
  · rw [if_neg hr]
theorem n_fin2 (h : NI G c E P o) (hG : G_ok G) (hn : n ∈ gA G) (hD : 10 ≤ D) (ho : b_ok w (bw_p (E (n + 9)))) (hi : b_is (bw_p (E (n + 9))) F) (hd : b_ok w (bw_p (E (n + 12)))) (hdf : b_df (bw_p (E (n + 12))) F' F) (hF' : F'.length ≤ N) (hF : F.length ≤ N) (hN : N ≤ 512) (c1 : (N : Int) ≤ gcp G (n + 9)) (c2 : 2 * (N : Int) ≤ glm G (n + 9)) {y1 y2 y3 y4 y5 : Int}
    (kk : ∀ c' E' P' o', NI G c' E' P' o' → bx c o c' o' → (∀ a, a ≠ n + 9 → E' a = E a) → b_ok w (bw_p (E' (n + 9))) → b_is (bw_p (E' (n + 9))) F' → Q 0 c') : cw (D + 1) 282 (am_blk 282 2) [n, y1, y2, y3, y4, y5] [] c Q := by
  obtain ⟨d, rfl⟩ : ∃ d, D = d + 5 := ⟨D - 5, by omega⟩
  refine u282_2 ⟨h.rn hn, h.rn hn, ?_⟩
  rw [h.out hn, h.dlt hn]
  have hm1 := hi.m ho
  have hm2 := hdf.m hd
  refine ⟨h.rb (h.g9 hn), n_addAllT (U := F' ++ F) (w := w) h hG (h.g9 hn) (h.g12 hn) (by omega) ho (fun e he => (hd.1 _ (bp_mem he)).1) (fun e he => List.mem_append_right _ (hi.mem ho (bp_mem he)).2) (fun e he => List.mem_append.mpr (hdf.mem hd (bp_mem he))) (by rw [List.length_append]; omega) (by rw [List.length_append]; omega) (by omega) (fun K hK hs => ?_) (fun c' E' P' o' I bx1 ea hs' hb' => ?_)⟩
  · have hI : b_is (bw_p K) F' := hdf.is hi hs
    have := hI.len hK
    rw [List.length_map] at this
    omega
  · exact kk c' E' P' o' I bx1 ea hs' (hdf.is hi hb')
theorem n_old_mono {keep w1 w2 : Int} (hk : 0 ≤ keep) (h : w1 ≤ w2) : n_old keep w1 ≤ n_old keep w2 := by
  unfold n_old
  split <;> split <;> omega
/-- what is fed: rows of a stream, or a watermark -/
def fd_ok (G : nG) (W W' : nW) (B : bw_L) (s rb ages x4 : Int) : Prop :=
  (ages = 0 ∧ W'.2 = W.2 ∧ rb ∈ gb G ∧ 0 ≤ s ∧ (∀ i : Nat, (i : Int) ≠ s → W'.1 i = W.1 i) ∧ b_ok (gco G s.toNat + 1) (bw_p B) ∧ b_df (bw_p B) (W'.1 s.toNat) (W.1 s.toNat) ∧ ∀ e ∈ B, e.2.2 < 0 → e.2.1 ∈ W.1 s.toNat)
  ∨ (ages ≠ 0 ∧ W'.1 = W.1 ∧ W.2 ≤ W'.2 ∧ x4 = W'.2 ∧ -9223372036854775808 ≤ W'.2 ∧ W'.2 ≤ 9223372036854775807)
theorem n_feedS (h : NI G c E P o) (hG : G_ok G) (hga : n_ga G (f + 1) lo n τ N) (hk : n_kind (gX G) n = 0) (hD : 40 ≤ D) (hW : nW_ok (gco G) W) (hW' : nW_ok (gco G) W') (hdy : n_dy G c E W (f + 1) n) (hrb : rb ≤ lo + 20) (hB : E rb = B) (hfd : fd_ok G W W' B s rb ages x4)
    (kk : ∀ c' E' P' o', NI G c' E' P' o' → nxo c o c' o' → (∀ a, a ≠ n + 9 → a ≠ n + 12 → E' a = E a) → (∀ y, y ≠ n → c_r c y ≠ 0 → c_v c' 413 y 0 = c_v c 413 y 0) → n_dy G c' E' W' (f + 1) n → (∃ w, b_ok w (bw_p (E' (n + 12)))) → b_df (bw_p (E' (n + 12))) (NL (gT G) (gsl G) (gX G) W' (f + 1) n) (NL (gT G) (gsl G) (gX G) W (f + 1) n) → Q 0 c') : knode_feed (D + 1) n s rb ages x4 c Q := by
  have hT := h.t64
  obtain ⟨t1, t2⟩ := n_ga.NL (W := W') (f + 1) lo n τ N hT hW' hga
  obtain ⟨s1, s2⟩ := n_ga.NL (W := W) (f + 1) lo n τ N hT hW hga
  obtain ⟨hn, hlo, h24, h1N, hN5, cp9, lm9, cp12, hb⟩ := id hga
  obtain ⟨hk0, hlft, hrgt, hs0, hτ, hN8, hkm, hkm1⟩ : n_kind (gX G) n = 0 ∧ n_left (gX G) n = -1 ∧ n_right (gX G) n = -1 ∧ 0 ≤ n_strm (gX G) n ∧ τ = List.replicate (gco G (n_strm (gX G) n).toNat + 1) 1 ∧ N = 8 ∧ n_keep (gX G) n ≤ 9223372036854775807 ∧ -1 ≤ n_keep (gX G) n := by
    rcases hb with h0 | ⟨h1, -⟩ | ⟨h1, -⟩ | ⟨h1, -⟩ | ⟨h1, -⟩ | ⟨h1, -⟩ | ⟨h1, -⟩ | ⟨h1, -⟩ | ⟨h1, -⟩
    · exact h0
    all_goals omega
  obtain ⟨⟨w0, ho0⟩, hio, hold, -, -, -, -⟩ := id hdy
  have hτl : τ.length = gco G (n_strm (gX G) n).toNat + 1 := by rw [hτ, List.length_replicate]
  have ho : b_ok (gco G (n_strm (gX G) n).toNat + 1) (bw_p (E (n + 9))) := b_ok_re ho0 (fun e he => by rw [← hτl]; exact (s2 _ (hio.mem ho0 he).2).1)
  have hkd : ∀ {c1 E1 P1 o1}, NI G c1 E1 P1 o1 → c_v c1 402 n 0 = 0 := fun I => by rw [(I.nd hn).2.1, hk]
  have hst : ∀ {c1 E1 P1 o1}, NI G c1 E1 P1 o1 → c_v c1 411 n 0 = n_strm (gX G) n := fun I => (I.nd hn).2.2.2.2.1
  have eW : NL (gT G) (gsl G) (gX G) W (f + 1) n = (W.1 (n_strm (gX G) n).toNat).filter (n_in (n_keep (gX G) n) W.2) := NL_0 hk
  have eW' : NL (gT G) (gsl G) (gX G) W' (f + 1) n = (W'.1 (n_strm (gX G) n).toNat).filter (n_in (n_keep (gX G) n) W'.2) := NL_0 hk
  obtain ⟨d, rfl⟩ : ∃ d, D = d + 2 := ⟨D - 2, by omega⟩
  -- the end
  have fin : ∀ (c1 : cs_S) (E1 : Int → bw_L) (P1 : List Int) (o1 : Int → Int), NI G c1 E1 P1 o1 → nxo c o c1 o1 → (∀ a, a ≠ n + 12 → E1 a = E a) → (∀ y, y ≠ n → c_r c y ≠ 0 → c_v c1 413 y 0 = c_v c 413 y 0) → (0 ≤ n_keep (gX G) n → c_v c1 413 n 0 = n_old (n_keep (gX G) n) W'.2) → b_ok (gco G (n_strm (gX G) n).toNat + 1) (bw_p (E1 (n + 12))) → b_df (bw_p (E1 (n + 12))) (NL (gT G) (gsl G) (gX G) W' (f + 1) n) (NL (gT G) (gsl G) (gX G) W (f + 1) n) → cw (d + 2 + 1) 282 (am_blk 282 2) [n, s, rb, ages, x4, 0] [] c1 Q := by
    intro c1 E1 P1 o1 I1 x1 ea1 hol1 hol2 hs1 hd1
    have e9 : E1 (n + 9) = E (n + 9) := ea1 _ (by omega)
    refine n_fin2 (N := N) I1 hG hn (by omega) (by rw [e9]; exact ho) (by rw [e9]; exact hio) hs1 hd1 t1 s1 hN5 cp9 lm9 (fun c2 E2 P2 o2 I2 b2 ea2 hs2 hi2 => ?_)
    have e12 : E2 (n + 12) = E1 (n + 12) := ea2 _ (by omega)
    have ov : ∀ y, c_r c1 y ≠ 0 → c_v c2 413 y 0 = c_v c1 413 y 0 := fun y hy => b2.1.v hy (by unfold bw_w; omega) 0
    refine kk c2 E2 P2 o2 I2 (x1.tr b2.oo) (fun y h9 h12 => (ea2 y h9).trans (ea1 y h12)) (fun y hy hr => ?_) ⟨⟨_, hs2⟩, hi2, fun _ q => ?_, fun q => absurd q (by omega), fun q => absurd q (by omega), fun q => absurd hk q, fun q => absurd hrgt q⟩ ⟨_, by rw [e12]; exact hs1⟩ (by rw [e12]; exact hd1)
    · rw [ov y (by have := x1.1.r (a := y) rfl hr; rw [this]; exact hr)]; exact hol1 y hy hr
    · rw [ov n (by rw [I1.rn hn]; decide)]; exact hol2 q
  refine u282_e ⟨h.rn hn, ?_⟩
  rw [h.dlt hn]
  refine ⟨h.rb (h.g12 hn), n_clear (d := d) h (h.g12 hn) (fun c1 E1 P1 o1 I1 b1 ea1 hz1 => ⟨I1.rn hn, ?_⟩)⟩
  have ov1 : ∀ y, c_r c y ≠ 0 → c_v c1 413 y 0 = c_v c 413 y 0 := fun y hy => b1.1.v hy (by unfold bw_w; omega) 0
  have e9 : E1 (n + 9) = E (n + 9) := ea1 _ (by omega)
  have hold1 : 0 ≤ n_keep (gX G) n → c_v c1 413 n 0 = n_old (n_keep (gX G) n) W.2 := fun q => by rw [ov1 n (by rw [h.rn hn]; decide)]; exact hold hk q
  rw [hkd I1]
  refine ⟨fun q => absurd rfl q, fun _ => ⟨fun ha => ⟨I1.rn hn, ?_⟩, fun ha => ⟨I1.rn hn, ?_⟩⟩⟩
  · -- rows of a stream
    rcases hfd with ⟨-, f2, f3, f4, f5, f6, f7, f8⟩ | ⟨f1, -⟩
    · rw [hst I1]
      refine ⟨fun hne => ?_, fun heq => ⟨I1.rn hn, ?_⟩⟩
      · refine fin c1 E1 P1 o1 I1 b1.oo ea1 (fun y _ hr => ov1 y hr) (fun q => by rw [f2]; exact hold1 q) (by rw [hz1]; exact b_ok_nil _) ?_
        have : W'.1 (n_strm (gX G) n).toNat = W.1 (n_strm (gX G) n).toNat := f5 _ (by omega)
        rw [hz1, eW, eW', this, f2]
        intro g; show 0 = _; omega
      · have es : s = n_strm (gX G) n := by omega
        subst es
        have erb : E1 rb = B := by rw [ea1 _ (by omega)]; exact hB
        have hrbn : rb ≠ n + 12 := by omega
        have hmB := f7.m f6
        have hw8 := (hW (n_strm (gX G) n).toNat).1
        have hw8' := (hW' (n_strm (gX G) n).toNat).1
        refine u284_e (n_come0 (w := gco G (n_strm (gX G) n).toNat) (L := W.1 (n_strm (gX G) n).toNat) (U := W'.1 (n_strm (gX G) n).toNat ++ W.1 (n_strm (gX G) n).toNat) (wm := W.2) hn f3 hrbn (by omega) (by rw [List.length_append]; omega) (E1 rb).length 0 c1 E1 P1 o1 0 0 (by omega) I1 hold1 (by rw [hz1]; exact b_ok_nil _) (by rw [e9]; exact ho) (by rw [e9, ← eW]; exact hio) (by rw [erb]; exact fun e he => ⟨(f6.1 _ (bp_mem he)).1, (f6.1 _ (bp_mem he)).2, f8 e he, fun _ => List.mem_append.mpr (f7.mem f6 (bp_mem he))⟩) (by rw [hz1]; intro e he; cases he) (by rw [hz1, List.drop_zero, erb]; show (0 : Int) + _ < _; omega) (fun c2 E2 P2 o2 I2 b2 ea2 hs2 hb2 => ?_))
        have ov2 : ∀ y, c_r c1 y ≠ 0 → c_v c2 413 y 0 = c_v c1 413 y 0 := fun y hy => b2.1.v hy (by unfold bw_w; omega) 0
        refine fin c2 E2 P2 o2 I2 (b1.oo.tr b2.oo) (fun y hy => (ea2 y hy).trans (ea1 y hy)) (fun y _ hr => ?_) (fun q => ?_) hs2 ?_
        · rw [ov2 y (by have := b1.1.r (a := y) rfl hr; rw [this]; exact hr)]; exact ov1 y hr
        · rw [ov2 n (by rw [I1.rn hn]; decide), f2]; exact hold1 q
        · rw [eW, eW', f2]
          refine f_df f7 (fun g => ?_)
          rw [hb2, hz1, List.drop_zero, erb]; show 0 + _ = _; omega
    · exact absurd ha f1
  · -- a watermark
    rcases hfd with ⟨f1, -⟩ | ⟨-, f2, f3, f4, f5, f6⟩
    · exact absurd f1 ha
    · refine n_age I1 hn hkm (by rw [f4]; exact f5) (by rw [f4]; exact f6) (fun c2 s2 hol2 => ?_)
      obtain ⟨I2, x2⟩ := I1.ag s2
      rw [f4] at hol2
      have hm9 := hio.m ho
      refine ⟨I2.rn hn, u283_e (n_old0 (w := gco G (n_strm (gX G) n).toNat) (U := NL (gT G) (gsl G) (gX G) W (f + 1) n) (wm := W'.2) hn (by omega) (by omega) (E1 (n + 9)).length 0 c2 E1 P1 o1 0 (by omega) I2 hol2 (by rw [hz1]; exact b_ok_nil _) (by rw [e9]; exact fun e he => ⟨(ho.1 _ (bp_mem he)).1, (hio.mem ho (bp_mem he)).2⟩) (by rw [hz1]; intro e he; cases he) (by rw [e9]; omega) (by rw [hz1, List.drop_zero, e9]; show (0 : Int) + _ < _; omega) (fun c3 E3 P3 o3 I3 b3 ea3 hs3 hb3 => ?_))⟩
      have ov3 : ∀ y, c_r c2 y ≠ 0 → c_v c3 413 y 0 = c_v c2 413 y 0 := fun y hy => b3.1.v hy (by unfold bw_w; omega) 0
      refine fin c3 E3 P3 o3 I3 ((b1.oo.tr x2).tr b3.oo) (fun y hy => (ea3 y hy).trans (ea1 y hy)) (fun y hy hr => ?_) (fun q => ?_) hs3 ?_
      · have r1 := b1.1.r (a := y) rfl hr
        rw [ov3 y (by rw [s2.r, r1]; exact hr), s2.v (by unfold agw; omega)]; exact ov1 y hr
      · rw [ov3 n (by rw [I2.rn hn]; decide)]; exact hol2 q
      · intro g
        rw [hb3, hz1, List.drop_zero, e9, hio, eW, eW', f2, ls_filter, ls_filter, ls_filter]
        have : ∀ A : List rwt, b_s g (bw_p ([] : bw_L)) - ls (fun x => if n_in (n_keep (gX G) n) W.2 x then (if n_in (n_keep (gX G) n) W'.2 x then 0 else g x) else 0) A = ls (fun x => if n_in (n_keep (gX G) n) W'.2 x then g x else 0) A - ls (fun x => if n_in (n_keep (gX G) n) W.2 x then g x else 0) A := by
          intro A
          have e0 : b_s g (bw_p ([] : bw_L)) = 0 := rfl
          have key : ls (fun x => if n_in (n_keep (gX G) n) W.2 x then (if n_in (n_keep (gX G) n) W'.2 x then 0 else g x) else 0) A + ls (fun x => if n_in (n_keep (gX G) n) W'.2 x then g x else 0) A = ls (fun x => if n_in (n_keep (gX G) n) W.2 x then g x else 0) A := by
            rw [← ls_add]
            refine ls_congr (fun y _ => ?_)
            by_cases p' : n_in (n_keep (gX G) n) W'.2 y = true
            · have p : n_in (n_keep (gX G) n) W.2 y = true := by
                unfold n_in at *
                simp at *
                rcases p' with q | q
                · exact Or.inl q
                · by_cases hk0 : 0 ≤ n_keep (gX G) n
                  · right; have := n_old_mono hk0 f3; omega
                  · left; omega
              rw [if_pos p, if_pos p', if_pos p', if_pos p]; omega
            · by_cases p : n_in (n_keep (gX G) n) W.2 y = true
              · rw [if_pos p, if_neg p', if_neg p', if_pos p]; omega
              · rw [if_neg p, if_neg p', if_neg p]; omega
          omega
        exact this _
end
