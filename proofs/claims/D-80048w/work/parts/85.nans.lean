set_option maxRecDepth 100000
/-! nodes: answers -/
def n_hd (T : xt) (sl : Nat → Int) (X : nt) (W : nW) : Nat → Int → Nat
  | 0, _ => 0
  | f + 1, n => if n_kind X n = 0 then (NL T sl X W (f + 1) n).length else n_hd T sl X W f (n_left X n) + (if n_right X n = -1 then 0 else n_hd T sl X W f (n_right X n))
section
variable {W W' : nW} {G : nG} {c c' c2 : cs_S} {E E' : Int → bw_L} {P P' : List Int} {o o' o2 : Int → Int} {a b n r x lo : Int} {l m k : rwt} {U L L' R R' F F' V K : List rwt} {Q : Int → cs_S → Prop} {d w D N Nl Nr f : Nat} {τ τl τr : List Int} {t v z1 z2 s wm rb ages x4 : Int} {B : bw_L} {σ : List Nat}
theorem n_held (hW : nW_ok (gco G) W) : ∀ (f : Nat) (lo n : Int) (τ : List Int) (N D : Nat) (c : cs_S) (E : Int → bw_L) (P : List Int) (o : Int → Int) (Q : Int → cs_S → Prop), n_ga G f lo n τ N → f + 2 ≤ D → NI G c E P o → n_dy G c E W f n → n_hd (gT G) (gsl G) (gX G) W f n ≤ 1000000 → Q (n_hd (gT G) (gsl G) (gX G) W f n : Int) c → knode_held D n c Q := by
  intro f
  induction f with
  | zero => intro lo n τ N D c E P o Q h; exact h.elim
  | succ f ih =>
    intro lo n τ N D c E P o Q hga hD h hdy hb kk
    have hn := hga.1
    have hkd : c_v c 402 n 0 = n_kind (gX G) n := (h.nd hn).2.1
    obtain ⟨d, rfl⟩ : ∃ d, D = d + 1 := ⟨D - 1, by omega⟩
    obtain ⟨⟨w0, ho⟩, hio, -, -, -, hdl, hdr⟩ := hdy
    have h237 : ∀ y ∈ gA G, 237 ≤ y := fun y hy => h.n237 hy
    refine u288_e ⟨h.rn hn, ?_⟩
    rw [hkd]
    unfold n_hd at kk hb
    refine ⟨fun hk => ?_, fun hk => ⟨h.rn hn, ?_⟩⟩
    · rw [if_neg hk] at kk hb
      obtain ⟨τl, Nl, gl⟩ : ∃ τl Nl, n_ga G f lo (n_left (gX G) n) τl Nl := by
        rcases hga.ch with ⟨u, -⟩ | ⟨-, -, u2, τl, Nl, u3⟩ | ⟨-, u1, u2, ⟨τl, Nl, u3⟩, -⟩
        · exact absurd u hk
        · exact ⟨τl, Nl, u3⟩
        · exact ⟨τl, Nl, u3⟩
      have hlA := gl.in.1
      rw [h.lft hn]
      refine ⟨h.rn hn, h.rn hlA, ih lo _ τl Nl d c E P o _ gl (by omega) h (hdl hk) (by omega) ⟨h.rn hn, ?_⟩⟩
      rw [h.rgt hn]
      refine ⟨fun hr => ⟨h.rn hn, ?_⟩, fun hr => u288_3 (u288_4 ?_)⟩
      · obtain ⟨τr, Nr, gr⟩ : ∃ τr Nr, n_ga G f (n_left (gX G) n) (n_right (gX G) n) τr Nr := by
          rcases hga.ch with ⟨-, -, u⟩ | ⟨-, u, -⟩ | ⟨-, u1, u2, ⟨τl, Nl, u3⟩, τr, Nr, u4⟩
          · exact absurd u hr
          · exact absurd u hr
          · exact ⟨τr, Nr, u4⟩
        have hrA := gr.in.1
        rw [if_neg hr] at kk hb
        refine ⟨h.rn hrA, ih _ _ τr Nr d c E P o _ gr (by omega) h (hdr hr) (by omega) (u288_3 (u288_4 ?_))⟩
        rw [am_w_in (by omega) (by omega)]
        have e : (n_hd (gT G) (gsl G) (gX G) W f (n_left (gX G) n) : Int) + (n_hd (gT G) (gsl G) (gX G) W f (n_right (gX G) n) : Int) = ((n_hd (gT G) (gsl G) (gX G) W f (n_left (gX G) n) + n_hd (gT G) (gsl G) (gX G) W f (n_right (gX G) n) : Nat) : Int) := by omega
        rw [e]; exact kk
      · rw [if_pos hr] at kk hb
        rw [am_w_in (by omega) (by omega)]
        have e : (n_hd (gT G) (gsl G) (gX G) W f (n_left (gX G) n) : Int) + 0 = ((n_hd (gT G) (gsl G) (gX G) W f (n_left (gX G) n) + 0 : Nat) : Int) := by omega
        rw [e]; exact kk
    · have hk : n_kind (gX G) n = 0 := Classical.not_not.mp hk
      rw [if_pos hk] at kk hb
      rw [h.out hn]
      have hl := h.le (h.g9 hn)
      have hm := hio.m ho
      refine ⟨h.rb (h.g9 hn), k_total (h.bag (h.g9 hn)) (by omega) (by omega) (u288_4 ?_)⟩
      rw [hio, ls_one]
      exact kk
/-- the rows of all, in order -/
def n_ans (G : nG) (n : Int) (F : List rwt) : List rwt := if n_kind (gX G) n = 10 then o_srt (n_cmp G n) F else o_srt (o_cmp (gT G) (gsl G) []) F
theorem b_xp_at {ents : bw_L} {i j : Nat} {e : Int × rwt × Int} (he : ents[j]? = some e) (h1 : (b_xp (bw_p (ents.take j))).length ≤ i) (h2 : i < (b_xp (bw_p (ents.take j))).length + e.2.2.toNat) : (b_xp (bw_p ents))[i]? = some e.2.1 := by
  have hj := (List.getElem?_eq_some_iff.mp he)
  have hs : ents = ents.take j ++ e :: ents.drop (j + 1) := by
    have h1 := l_split ents j
    rw [List.drop_eq_getElem_cons hj.1, hj.2] at h1
    exact h1
  have : b_xp (bw_p ents) = b_xp (bw_p (ents.take j)) ++ (List.replicate e.2.2.toNat e.2.1 ++ b_xp (bw_p (ents.drop (j + 1)))) := by
    rw [congrArg bw_p hs, bp_app, bp_cons]
    unfold b_xp
    rw [List.flatMap_append, List.flatMap_cons]
  rw [this, List.getElem?_append_right h1, List.getElem?_append_left (by rw [List.length_replicate]; omega), List.getElem?_replicate, if_pos (by omega)]
theorem n_ans1 (h : NI G c E P o) (hn : n ∈ gA G) (hD : 5 ≤ D) {ents : bw_L} {z2 : Int} {i : Nat} (hel : ents.length = (E (n + 9)).length) (hpos : ∀ e ∈ E (n + 9), 0 < e.2.2) (hm : b_m (bw_p (E (n + 9))) ≤ 1000000) (hent : ∀ (j : Nat) (e : Int × rwt × Int), ents[j]? = some e → ∃ q : Nat, (E (n + 9))[q]? = some e ∧ ((z2 = 0 ∧ q = j) ∨ (z2 ≠ 0 ∧ c_r c (c_v c 426 n 0) = 926 ∧ (j : Int) < c_l c (c_v c 426 n 0) ∧ c_v c 926 (c_v c 426 n 0) j = q))) (hi : i < (b_xp (bw_p ents)).length) (hib : i ≤ 1000000) (kk : ∀ r y, (b_xp (bw_p ents))[i]? = some y → rw_is c r y → Q r c) : ∀ (p j : Nat) (x1 y5 : Int), j + p = ents.length → (b_xp (bw_p (ents.take j))).length ≤ i → cw (D + 1) 287 (am_blk 287 4) [n, x1, z2, ((i - (b_xp (bw_p (ents.take j))).length : Nat) : Int), (j : Int), y5] [] c Q := by
  have hb9 := h.bag (h.g9 hn)
  have hl9 := h.le (h.g9 hn)
  intro p
  induction p with
  | zero =>
    intro j x1 y5 hj hle
    rw [List.take_of_length_le (by omega)] at hle
    omega
  | succ p ih =>
    intro j x1 y5 hj hle
    have hjl : j < ents.length := by omega
    have heg := List.getElem?_eq_getElem hjl
    generalize he0 : ents[j] = e0 at *
    obtain ⟨q, hq, hor⟩ := hent j e0 heg
    have hmem : e0 ∈ E (n + 9) := List.mem_of_getElem? hq
    have hp := hpos e0 hmem
    have hle2 := b_m_mem (bp_mem hmem)
    have htk : (b_xp (bw_p (ents.take (j + 1)))).length = (b_xp (bw_p (ents.take j))).length + e0.2.2.toNat := by
      rw [List.take_succ_eq_append_getElem hjl, he0, bp_app]
      unfold b_xp
      rw [List.flatMap_append, List.length_append]
      simp [bw_p]
    have b6 : ∀ y5, cw (D + 1) 287 (am_blk 287 6) [n, x1, z2, ((i - (b_xp (bw_p (ents.take j))).length : Nat) : Int), (j : Int), y5] [(q : Int)] c Q := by
      intro y5
      refine u287_6 ⟨h.rn hn, ?_⟩
      rw [h.out hn]
      refine ⟨h.rb (h.g9 hn), k_btimes hb9 hq ?_⟩
      rw [am_w_in (by omega) (by omega), am_w1 (by omega)]
      refine ⟨fun z => ?_, fun z => ⟨h.rn hn, ?_⟩⟩
      · have e : ((i - (b_xp (bw_p (ents.take j))).length : Nat) : Int) - e0.2.2 = ((i - (b_xp (bw_p (ents.take (j + 1)))).length : Nat) : Int) := by rw [htk]; omega
        rw [e]
        exact ih (j + 1) x1 _ (by omega) (by rw [htk]; omega)
      · rw [h.out hn]
        refine ⟨h.rb (h.g9 hn), k_brow hb9 hq ?_⟩
        exact kk e0.1 e0.2.1 (b_xp_at heg hle (by omega)) (h.own (h.g9 hn) hmem hn).2.2.2
    refine u287_4 ⟨h.rn hn, ?_⟩
    rw [h.out hn]
    refine ⟨h.rb (h.g9 hn), k_bsize hb9 ⟨fun z => absurd z (by omega), fun _ => ⟨fun z => ?_, fun z => ⟨h.rn hn, ?_⟩⟩⟩⟩
    · rcases hor with ⟨-, u⟩ | ⟨u, -⟩
      · subst u; exact b6 _
      · exact absurd z u
    · rcases hor with ⟨u, -⟩ | ⟨-, u1, u2, u3⟩
      · exact absurd u z
      · rw [u3]
        exact ⟨u1, by omega, u2, b6 _⟩
theorem n_answer {i : Nat} (h : NI G c E P o) (hn : n ∈ gA G) (hD : 300 ≤ D) (ho : b_ok w (bw_p (E (n + 9)))) (hio : b_is (bw_p (E (n + 9))) F) (hFr : ∀ y ∈ F, rg τ y) (hF5 : F.length ≤ 512) (h10 : n_kind (gX G) n = 10 → (n_list (gX G) n).length ≤ 8 ∧ (n_down (gX G) n).length = (n_list (gX G) n).length ∧ ∀ e ∈ n_list (gX G) n, e < gN G ∧ ∃ t, x_wt (gT G) (gsl G) (gct G) τ 121 e t) (hi : i < F.length) (kk : ∀ c' r y, NI G c' E P o → nx c o c' o → (n_ans G n F)[i]? = some y → rw_is c' r y → Q r c') : knode_answer (D + 1) n i c Q := by
  have hkd : c_v c 402 n 0 = n_kind (gX G) n := (h.nd hn).2.1
  have hlen := hio.len ho
  rw [List.length_map] at hlen
  have hm := hio.m ho
  have hpos : ∀ e ∈ E (n + 9), 0 < e.2.2 := fun e he => (hio.mem ho (bp_mem he)).1
  have hpos' : ∀ e ∈ bw_p (E (n + 9)), 0 < e.2 := fun e he => (hio.mem ho he).1
  have hperm := b_xp_perm hpos' hio
  obtain ⟨d, rfl⟩ : ∃ d, D = d + 1 := ⟨D - 1, by omega⟩
  refine u287_e ⟨h.rn hn, ?_⟩
  rw [hkd]
  refine ⟨fun hk => u287_2 ⟨fun _ => u287_3 ?_, fun z => absurd rfl z⟩, fun hk => u287_2 ⟨fun z => absurd z (by decide), fun _ => ⟨h.rn hn, h.rn hn, ?_⟩⟩⟩
  · -- by columns: as it lies
    have hgood : o_good (o_cmp (gT G) (gsl G) []) F := o_cmp_good (w := τ.length) (fun y hy => (hFr y hy).1)
    have hsd : o_sd (o_cmp (gT G) (gsl G) []) (b_xp (bw_p (E (n + 9)))) := by
      have key : ∀ K : List (rwt × Int), K.Pairwise (fun a b => r_cmp a.1 b.1 < 0) → o_sd (o_cmp (gT G) (gsl G) []) (b_xp K) := by
        intro K
        induction K with
        | nil => intro _; exact List.Pairwise.nil
        | cons e K ih =>
          intro hp
          rw [List.pairwise_cons] at hp
          unfold b_xp
          rw [List.flatMap_cons]
          unfold o_sd
          rw [List.pairwise_append]
          refine ⟨?_, ih hp.2, fun x hx y hy => ?_⟩
          · rw [List.pairwise_replicate]
            right
            have := r_cmp_rf e.1
            show r_cmp e.1 e.1 ≤ 0
            omega
          · rw [List.eq_of_mem_replicate hx]
            obtain ⟨e', he', hy'⟩ := List.mem_flatMap.mp hy
            rw [List.eq_of_mem_replicate hy']
            have := hp.1 e' he'
            show r_cmp e.1 e'.1 ≤ 0
            omega
      exact key _ ho.2
    have hans : n_ans G n F = b_xp (bw_p (E (n + 9))) := by
      unfold n_ans
      rw [if_neg hk]
      exact (o_srt_uniq hgood hperm hsd).symm
    have := n_ans1 (Q := Q) (D := d + 1) (ents := E (n + 9)) (z2 := 0) (i := i) h hn (by omega) rfl hpos (by omega) (fun j e hj => ⟨j, hj, Or.inl ⟨rfl, rfl⟩⟩) (by rw [hperm.length_eq]; exact hi) (by omega) (fun r y hy hr => kk c r y h (nx.rf c o) (by rw [hans]; exact hy) hr) (E (n + 9)).length 0 i 0 (by omega) (by simp [b_xp, bw_p])
    simp only [List.take_zero] at this
    exact this
  · have hk : n_kind (gX G) n = 10 := Classical.not_not.mp hk
    obtain ⟨h8, hdl, hw⟩ := h10 hk
    rw [h.out hn]
    have hty : ∀ e ∈ E (n + 9), rg τ e.2.1 := fun e he => hFr _ (hio.mem ho (bp_mem he)).2
    refine n_sorted (τ := τ) h hn (h.g9 hn) (by omega) hty h8 hdl hw (by omega) (fun c1 σ I1 x1 hos hp hps => u287_3 ?_)
    have hσ : ∀ i ∈ σ, i < (E (n + 9)).length := fun i hi => List.mem_range.mp (hp.mem_iff.mp hi)
    have hσl : σ.length = (E (n + 9)).length := by rw [hp.length_eq, List.length_range]
    have hgood : o_good (n_cmp G n) F := o_cmp_good (w := τ.length) (fun y hy => (hFr y hy).1)
    have hxp : (b_xp (bw_p (o_en (E (n + 9)) σ))).Perm F := by
      have h1 : (bw_p (o_en (E (n + 9)) σ)).Perm (bw_p (E (n + 9))) := (o_en_perm hp).map _
      have h2 : (b_xp (bw_p (o_en (E (n + 9)) σ))).Perm (b_xp (bw_p (E (n + 9)))) := by unfold b_xp; exact h1.flatMap_right _
      exact h2.trans hperm
    have hans : n_ans G n F = b_xp (bw_p (o_en (E (n + 9)) σ)) := by
      unfold n_ans
      rw [if_pos hk]
      exact (o_srt_uniq hgood hxp (o_en_srt hσ hps (fun e he => (o_cmp_0 _ rfl).mpr rfl))).symm
    have hel := o_en_len hσ
    obtain ⟨os1, os2, os3⟩ := (I1.ns (I1.aS hn)).2.2.2.2.2.2.2.2.2.2.2.1
    have := n_ans1 (Q := Q) (D := d + 1) (ents := o_en (E (n + 9)) σ) (z2 := 1) (i := i) I1 hn (by omega) (by omega) hpos (by omega) (fun j e hj => ?_) (by rw [hxp.length_eq]; exact hi) (by omega) (fun r y hy hr => kk c1 r y I1 x1 (by rw [hans]; exact hy) hr) (o_en (E (n + 9)) σ).length 0 i 0 (by omega) (by simp [b_xp, bw_p])
    · simp only [List.take_zero] at this
      exact this
    · have hjl := (List.getElem?_eq_some_iff.mp hj).1
      have hjs : j < σ.length := by omega
      have hsg := List.getElem?_eq_getElem hjs
      have hgt := o_en_get hσ hsg
      refine ⟨σ[j], by rw [← hgt]; exact hj, Or.inr ⟨by decide, os1, ?_, hos.2 j _ hsg⟩⟩
      have := hos.1
      unfold n_ol at this
      omega
end
