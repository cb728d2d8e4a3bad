set_option maxRecDepth 100000
/-! nodes: what is told anew -/
section
variable {W : Nat → Int → Prop} {G : nG} {c c' c2 : cs_S} {E E' : Int → bw_L} {P P' : List Int} {o o' o2 : Int → Int} {a b n r x : Int} {l m k : rwt} {U L L' R R' F F' V K : List rwt} {Q : Int → cs_S → Prop} {d w D N Nl Nr : Nat} {τ τl τr : List Int} {t v z1 z2 s : Int} {es B : bw_L} {σ : List Nat}
theorem n_top (h : NI G c E P o) (hn : n ∈ gA G) (hl : n_left (gX G) n ∈ gA G) (hln : n_left (gX G) n + 21 ≤ n) (hD : 300 ≤ D) (h8 : (n_list (gX G) n).length ≤ 8) (hdl : (n_down (gX G) n).length = (n_list (gX G) n).length) (hw : ∀ e ∈ n_list (gX G) n, e < gN G ∧ ∃ t, x_wt (gT G) (gsl G) (gct G) τ 121 e t) (hm0 : 0 ≤ n_most (gX G) n) (hm1 : n_most (gX G) n ≤ 100)
    (hL : ch_ok E (n_left (gX G) n) τ Nl L' L) (hNl : Nl ≤ 512) (hz : E (n + 12) = []) (hcap : 2 * (N : Int) ≤ gcp G (n + 12)) (hcap2 : (N : Int) ≤ gcp G (n + 15)) (hcap3 : (N : Int) ≤ gcp G (n + 18)) (hF' : ((o_srt (n_cmp G n) L').take (n_most (gX G) n).toNat).length ≤ N) (hF : F.length ≤ N) (hFr : ∀ y ∈ F, rg τ y) (hsa : b_ok τ.length (bw_p (E (n + 15)))) (hia : b_is (bw_p (E (n + 15))) F) (hN5 : N ≤ 512)
    (kk : ∀ c' E' P' o', NI G c' E' P' o' → nx c o c' o' → (∀ a, a ≠ n + 12 → a ≠ n + 15 → a ≠ n + 18 → E' a = E a) → b_ok τ.length (bw_p (E' (n + 12))) → b_df (bw_p (E' (n + 12))) ((o_srt (n_cmp G n) L').take (n_most (gX G) n).toNat) F → b_ok τ.length (bw_p (E' (n + 15))) → b_is (bw_p (E' (n + 15))) ((o_srt (n_cmp G n) L').take (n_most (gX G) n).toNat) → Q 0 c') : knode_top (D + 1) n c Q := by
  have hlen9 := hL.2.1.len hL.1
  rw [List.length_map] at hlen9
  have hb1 := hL.2.2.2.2.2.2.1
  obtain ⟨d, rfl⟩ : ∃ d, D = d + 2 := ⟨D - 2, by omega⟩
  refine u279_e ⟨h.rn hn, ?_⟩
  rw [h.frs hn]
  refine ⟨h.rb (h.g18 hn), n_clear (d := d) h (h.g18 hn) (fun c1 E1 P1 o1 I1 b1 ea1 hz1 => ⟨I1.rn hn, ?_⟩)⟩
  have el9 : E1 (n_left (gX G) n + 9) = E (n_left (gX G) n + 9) := ea1 _ (by omega)
  rw [I1.lft hn, I1.out hl]
  have hty : ∀ e ∈ E (n_left (gX G) n + 9), rg τ e.2.1 := fun e he => (hL.orows he).1
  refine ⟨I1.rn hl, I1.rn hn, n_sorted (τ := τ) (D := d + 1) I1 hn (I1.g9 hl) (by omega) (by rw [el9]; exact hty) h8 hdl hw (by rw [el9]; omega) (fun c2 σ I2 x2 hos hp hps => ⟨I2.rn hn, ?_⟩)⟩
  rw [el9] at hp hps
  have hmost : c_v c2 422 n 0 = (((n_most (gX G) n).toNat : Nat) : Int) := by rw [(I2.nd hn).2.2.2.2.2.2.2.2.2.2.2.2]; omega
  have hσ : ∀ i ∈ σ, i < (E (n_left (gX G) n + 9)).length := fun i hi => List.mem_range.mp (hp.mem_iff.mp hi)
  have hσl : σ.length = (E (n_left (gX G) n + 9)).length := by rw [hp.length_eq, List.length_range]
  have hen := o_en_perm hp
  have hpos : ∀ e ∈ bw_p (E (n_left (gX G) n + 9)), 0 < e.2 := fun e he => (hL.2.1.mem hL.1 he).1
  have hxp : (b_xp (bw_p (o_en (E (n_left (gX G) n + 9)) σ))).Perm L' := by
    have h1 : (bw_p (o_en (E (n_left (gX G) n + 9)) σ)).Perm (bw_p (E (n_left (gX G) n + 9))) := hen.map _
    have h2 : (b_xp (bw_p (o_en (E (n_left (gX G) n + 9)) σ))).Perm (b_xp (bw_p (E (n_left (gX G) n + 9)))) := by unfold b_xp; exact h1.flatMap_right _
    exact h2.trans (b_xp_perm hpos hL.2.1)
  have hgood : o_good (n_cmp G n) L' := o_cmp_good (w := τ.length) (fun y hy => (hL.2.2.2.2.1 y hy).1)
  have hsrt : b_xp (bw_p (o_en (E (n_left (gX G) n + 9)) σ)) = o_srt (n_cmp G n) L' := by
    refine o_srt_uniq hgood hxp (o_en_srt hσ hps (fun e he => ?_))
    exact (o_cmp_0 _ rfl).mpr rfl
  have hrow : ∀ e ∈ E (n_left (gX G) n + 9), e.2.1.length = τ.length ∧ 0 < e.2.2 ∧ e.2.2 ≤ 1000000 := by
    intro e he
    obtain ⟨q1, q2, q3⟩ := hL.orows he
    have := b_m_mem (bp_mem he)
    have := hL.om
    exact ⟨q1.1, q3, by omega⟩
  rw [hmost]
  have hlen1 : ((E1 (n_left (gX G) n + 9)).length : Int) = (σ.length : Int) := by rw [el9, hσl]
  rw [hlen1]
  have key := n_top1 (Q := Q) (c := c2) (w := τ.length) (M := (n_most (gX G) n).toNat) (E := E1) (o := o1) (D := d + 2) (σ := σ) hn hl hln (by omega) (by omega) (by rw [el9]; exact hσ) (by rw [el9]; exact hσl) (by rw [el9]; omega) (by rw [el9]; exact hrow) (by rw [el9, hsrt]; omega) ?_ σ.length 0 c2 E1 P1 o1 0 (by omega) I2 (nx.rf c2 o1) (fun _ _ => rfl) hos (by rw [hz1]; exact b_ok_nil _) (by rw [hz1, List.take_zero]; show b_is [] (List.take _ []); rw [List.take_nil]; exact b_is_nil)
  · simp only [List.take_zero] at key
    exact key
  · intro c3 E3 P3 o3 I3 x3 ea3 hs3 hi3
    rw [el9, hsrt] at hi3
    have e12 : E3 (n + 12) = [] := by rw [ea3 _ (by omega), ea1 _ (by omega)]; exact hz
    have e15 : E3 (n + 15) = E (n + 15) := by rw [ea3 _ (by omega), ea1 _ (by omega)]
    refine n_differ (D := d + 1) (U := (o_srt (n_cmp G n) L').take (n_most (gX G) n).toNat ++ F) (F := F) (F' := (o_srt (n_cmp G n) L').take (n_most (gX G) n).toNat) (w := τ.length) I3 hn (by omega) (by rw [List.length_append]; omega) (by omega) (by rw [e12]; exact b_ok_nil _) (by rw [e12]; intro e he; cases he) (by rw [e15]; exact hsa) (by rw [e15]; exact hia) (fun y hy => List.mem_append_right _ hy) hs3 hi3 (fun y hy => List.mem_append_left _ hy) (by omega) (by omega) (by rw [e12]; decide) (fun c4 E4 P4 o4 I4 b4 ea4 hs4 hb4 hU4 hs5 hi5 => ?_)
    refine kk c4 E4 P4 o4 I4 (((b1.nx.tr x2).tr x3).tr b4.nx) (fun y h12 h15 h18 => ?_) hs4 (fun g => ?_) hs5 hi5
    · rw [ea4 y h12 h15, ea3 y h18, ea1 y h18]
    · rw [hb4, e12]; show 0 + _ - _ = _; omega
end
