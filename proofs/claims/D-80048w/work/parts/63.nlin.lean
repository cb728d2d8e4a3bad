set_option maxRecDepth 100000
/-! nodes: what is linear -/
def ch_ok (E : Int → bw_L) (l : Int) (τ : List Int) (N : Nat) (L' L : List rwt) : Prop := b_ok τ.length (bw_p (E (l + 9))) ∧ b_is (bw_p (E (l + 9))) L' ∧ b_ok τ.length (bw_p (E (l + 12))) ∧ b_df (bw_p (E (l + 12))) L' L ∧ (∀ x ∈ L', rg τ x) ∧ (∀ x ∈ L, rg τ x) ∧ L'.length ≤ N ∧ L.length ≤ N
theorem bp_mem {E : bw_L} {e : Int × rwt × Int} (h : e ∈ E) : e.2 ∈ bw_p E := List.mem_map.mpr ⟨e, h, rfl⟩
theorem bp_app (A B : bw_L) : bw_p (A ++ B) = bw_p A ++ bw_p B := List.map_append
theorem bp_nil : bw_p [] = [] := rfl
theorem bp_cons (e : Int × rwt × Int) (B : bw_L) : bw_p (e :: B) = e.2 :: bw_p B := rfl
theorem bp_drop_m (E : bw_L) (k : Nat) : b_m (bw_p (E.drop k)) ≤ b_m (bw_p E) := by
  have : bw_p E = bw_p (E.take k) ++ bw_p (E.drop k) := by rw [← bp_app, List.take_append_drop]
  rw [this, b_m_app]
  have := b_m_pos (L := bw_p (E.take k))
  omega
theorem b_s_neg {D : List (rwt × Int)} {g : rwt → Int} : b_s (fun x => - g x) D = - b_s g D := by
  induction D with
  | nil => rfl
  | cons e D ih => rw [b_s_cons, b_s_cons, ih, Int.mul_neg]; omega
theorem am_w1 {k : Nat} (h : k < 2000000) : am_w ((k : Int) + 1) = ((k + 1 : Nat) : Int) := by rw [am_w_in (by omega) (by omega)]; omega
section
variable {G : nG} {c c' c2 : cs_S} {E E' : Int → bw_L} {P P' : List Int} {o o' o2 : Int → Int} {a b n r x : Int} {l m : rwt} {U L L' R R' F F' : List rwt} {Q : Int → cs_S → Prop} {d w D N : Nat} {τ τ' : List Int} {t v z1 z2 : Int}
theorem ch_ok.rows (h : ch_ok E a τ N L' L) {e : Int × rwt × Int} (he : e ∈ E (a + 12)) : rg τ e.2.1 ∧ (e.2.1 ∈ L' ∨ e.2.1 ∈ L) := by
  have := h.2.2.2.1.mem h.2.2.1 (bp_mem he)
  rcases this with q | q
  · exact ⟨h.2.2.2.2.1 _ q, Or.inl q⟩
  · exact ⟨h.2.2.2.2.2.1 _ q, Or.inr q⟩
theorem ch_ok.orows (h : ch_ok E a τ N L' L) {e : Int × rwt × Int} (he : e ∈ E (a + 9)) : rg τ e.2.1 ∧ e.2.1 ∈ L' ∧ 0 < e.2.2 := by
  have := h.2.1.mem h.1 (bp_mem he)
  exact ⟨h.2.2.2.2.1 _ this.2, this.2, this.1⟩
theorem ch_ok.dm (h : ch_ok E a τ N L' L) : b_m (bw_p (E (a + 12))) ≤ 2 * (N : Int) := by
  have := h.2.2.2.1.m h.2.2.1
  have := h.2.2.2.2.2.2.1
  have := h.2.2.2.2.2.2.2
  omega
theorem ch_ok.om (h : ch_ok E a τ N L' L) : b_m (bw_p (E (a + 9))) ≤ (N : Int) := by
  have := h.2.1.m h.1
  have := h.2.2.2.2.2.2.1
  omega
/-- the difference comes to what is there -/
theorem n_fin (h : NI G c E P o) (hG : G_ok G) (hn : n ∈ gA G) (hD : 10 ≤ D) (ho : b_ok w (bw_p (E (n + 9)))) (hi : b_is (bw_p (E (n + 9))) F) (hd : b_ok w (bw_p (E (n + 12)))) (hdf : b_df (bw_p (E (n + 12))) F' F) (hF' : F'.length ≤ N) (hF : F.length ≤ N) (hN : N ≤ 512) (c1 : (N : Int) ≤ gcp G (n + 9)) (c2 : 2 * (N : Int) ≤ glm G (n + 9))
    (kk : ∀ c' E' P' o', NI G c' E' P' o' → bx c o c' o' → (∀ a, a ≠ n + 9 → E' a = E a) → b_ok w (bw_p (E' (n + 9))) → b_is (bw_p (E' (n + 9))) F' → Q 0 c') : cw (D + 1) 266 (am_blk 266 13) [n, z1, z2] [] c Q := by
  obtain ⟨d, rfl⟩ : ∃ d, D = d + 5 := ⟨D - 5, by omega⟩
  refine u266_13 ⟨h.rn hn, h.rn hn, ?_⟩
  rw [h.out hn, h.dlt hn]
  have hm1 := hi.m ho
  have hm2 := hdf.m hd
  refine ⟨h.rb (h.g9 hn), n_addAllT (U := F' ++ F) (w := w) h hG (h.g9 hn) (h.g12 hn) (by omega) ho (fun e he => (hd.1 _ (bp_mem he)).1) (fun e he => List.mem_append_right _ (hi.mem ho (bp_mem he)).2) (fun e he => List.mem_append.mpr (hdf.mem hd (bp_mem he))) (by rw [List.length_append]; omega) (by rw [List.length_append]; omega) (by omega) (fun K hK hs => ?_) (fun c' E' P' o' I bx1 ea hs' hb' => ?_)⟩
  · have hI : b_is (bw_p K) F' := hdf.is hi hs
    have := hI.len hK
    rw [List.length_map] at this
    omega
  · exact kk c' E' P' o' I bx1 ea hs' (hdf.is hi hb')
/-- those for which it is true -/
theorem n_filter0 (hn : n ∈ gA G) (hl : n_left (gX G) n ∈ gA G) (hne : n_left (gX G) n ≠ n) (hD : 260 ≤ D) (hc0 : 0 ≤ n_cond (gX G) n) (hc : n_cond (gX G) n < gN G) (hw : x_wt (gT G) (gsl G) (gct G) τ 121 (n_cond (gX G) n).toNat t) (hcap : (U.length : Int) ≤ gcp G (n + 12)) : ∀ (m k : Nat) (c : cs_S) (E : Int → bw_L) (P : List Int) (o : Int → Int), k + m = (E (n_left (gX G) n + 12)).length → NI G c E P o → b_ok τ.length (bw_p (E (n + 12))) → (∀ e ∈ E (n_left (gX G) n + 12), rg τ e.2.1 ∧ (x_tr (gT G) (gsl G) (n_cond (gX G) n).toNat e.2.1 = true → e.2.1 ∈ U)) → (∀ e ∈ E (n + 12), e.2.1 ∈ U) → b_m (bw_p (E (n + 12))) + b_m (bw_p ((E (n_left (gX G) n + 12)).drop k)) < 2147483648 →
    (∀ c' E' P' o' z, NI G c' E' P' o' → nx c o c' o' → (∀ a, a ≠ n + 12 → E' a = E a) → b_ok τ.length (bw_p (E' (n + 12))) → (∀ g, b_s g (bw_p (E' (n + 12))) = b_s g (bw_p (E (n + 12))) + b_s (fun x => if x_tr (gT G) (gsl G) (n_cond (gX G) n).toNat x then g x else 0) (bw_p ((E (n_left (gX G) n + 12)).drop k))) → cw (D + 1) 266 (am_blk 266 13) [n, z1, z] [] c' Q) → cw (D + 1) 266 (am_blk 266 3) [n, z1, (k : Int)] [] c Q := by
  intro m
  induction m with
  | zero =>
    intro k c E P o hk h hs hrow hU hm kk
    have e0 : (E (n_left (gX G) n + 12)).drop k = [] := List.drop_of_length_le (by omega)
    refine u266_3 ⟨h.rn hn, ?_⟩
    rw [h.lft hn, h.dlt hl]
    refine ⟨h.rn hl, h.rb (h.g12 hl), k_bsize (h.bag (h.g12 hl)) ⟨fun _ => ?_, fun q => absurd (by omega) q⟩⟩
    refine kk c E P o _ h (nx.rf c o) (fun _ _ => rfl) hs (fun g => ?_)
    rw [e0]; show _ = _ + 0; omega
  | succ m ih =>
    intro k c E P o hk h hs hrow hU hm kk
    have hk1 : k < (E (n_left (gX G) n + 12)).length := by omega
    have hg := List.getElem?_eq_getElem hk1
    have hd := List.drop_eq_getElem_cons hk1
    generalize hE : (E (n_left (gX G) n + 12))[k] = e0 at *
    have hmem : e0 ∈ E (n_left (gX G) n + 12) := List.mem_of_getElem? hg
    have hlb := h.le (h.g12 hl)
    rw [hd, bp_cons, b_m_cons] at hm
    have hpos := b_m_pos (L := bw_p ((E (n_left (gX G) n + 12)).drop (k + 1)))
    have hpos2 := b_m_pos (L := bw_p (E (n + 12)))
    obtain ⟨q1, q2, q3, q4⟩ := h.own (h.g12 hl) hmem hn
    refine u266_3 ⟨h.rn hn, ?_⟩
    rw [h.lft hn, h.dlt hl]
    refine ⟨h.rn hl, h.rb (h.g12 hl), k_bsize (h.bag (h.g12 hl)) ?_⟩
    rw [h.lft hn, h.dlt hl]
    refine ⟨fun q => absurd q (by omega), fun _ => ⟨h.rn hn, h.rn hl, h.rb (h.g12 hl), k_brow (h.bag (h.g12 hl)) hg ⟨h.rn hn, n_isTrue h hn (by omega) hc0 hc hw q4 (hrow e0 hmem).1 (fun c1 s1 => ?_)⟩⟩⟩
    obtain ⟨I1, x1⟩ := h.scr hn (s1.mono (fun q a hw => Or.inl hw))
    have hw1 := am_w1 (k := k) (by omega)
    by_cases p : x_tr (gT G) (gsl G) (n_cond (gX G) n).toNat e0.2.1 = true
    · rw [if_pos p]
      refine ⟨fun q => absurd q (by decide), fun _ => ⟨I1.rn hn, I1.rn hn, ?_⟩⟩
      rw [I1.lft hn, I1.dlt hl, I1.dlt hn]
      refine ⟨I1.rn hl, I1.rb (I1.g12 hl), k_brow (I1.bag (I1.g12 hl)) hg ⟨I1.rn hn, ?_⟩⟩
      rw [I1.lft hn, I1.dlt hl]
      refine ⟨I1.rn hl, I1.rb (I1.g12 hl), k_btimes (I1.bag (I1.g12 hl)) hg ⟨I1.rb (I1.g12 hn), ?_⟩⟩
      obtain ⟨d, rfl⟩ : ∃ d, D = d + 4 := ⟨D - 4, by omega⟩
      refine n_add I1 (I1.g12 hn) hs (I1.own (I1.g12 hl) hmem hn).2.2.2 (hrow e0 hmem).1.1 q3 hU ((hrow e0 hmem).2 p) hcap (by omega) (fun c2 E2 P2 o2 I2 bx2 ea2 hs2 hb2 hm2 hU2 => u266_4 ?_)
      have eL : E2 (n_left (gX G) n + 12) = E (n_left (gX G) n + 12) := ea2 _ (by omega)
      rw [hw1]
      refine ih (k + 1) c2 E2 P2 o2 (by rw [eL]; omega) I2 hs2 (by rw [eL]; exact hrow) hU2 (by rw [eL]; omega) (fun c3 E3 P3 o3 z I3 x3 ea3 hs3 hb3 => ?_)
      refine kk c3 E3 P3 o3 z I3 ((x1.tr bx2.nx).tr x3) (fun y hy => (ea3 y hy).trans (ea2 y hy)) hs3 (fun g => ?_)
      rw [hb3, hb2, eL, hd, bp_cons, b_s_cons, if_pos p]
      omega
    · rw [if_neg p]
      refine ⟨fun _ => u266_4 ?_, fun q => absurd rfl q⟩
      rw [hw1]
      refine ih (k + 1) c1 E P o (by omega) I1 hs hrow hU (by omega) (fun c3 E3 P3 o3 z I3 x3 ea3 hs3 hb3 => ?_)
      refine kk c3 E3 P3 o3 z I3 (x1.tr x3) ea3 hs3 (fun g => ?_)
      rw [hb3, hd, bp_cons, b_s_cons, if_neg p]
      omega
/-- values of rows -/
theorem n_project0 (hn : n ∈ gA G) (hl : n_left (gX G) n ∈ gA G) (hne : n_left (gX G) n ≠ n) (hD : 260 ≤ D) (h8 : (n_list (gX G) n).length ≤ 8) (hlt : ∀ e ∈ n_list (gX G) n, e < gN G) (hx : x_wts (gT G) (gsl G) (gct G) τ (n_list (gX G) n) τ') (hcap : (U.length : Int) ≤ gcp G (n + 12)) : ∀ (m k : Nat) (c : cs_S) (E : Int → bw_L) (P : List Int) (o : Int → Int), k + m = (E (n_left (gX G) n + 12)).length → NI G c E P o → b_ok τ'.length (bw_p (E (n + 12))) → (∀ e ∈ E (n_left (gX G) n + 12), rg τ e.2.1 ∧ x_vals (gT G) (gsl G) (n_list (gX G) n) e.2.1 ∈ U) → (∀ e ∈ E (n + 12), e.2.1 ∈ U) → b_m (bw_p (E (n + 12))) + b_m (bw_p ((E (n_left (gX G) n + 12)).drop k)) < 2147483648 →
    (∀ c' E' P' o' z, NI G c' E' P' o' → nx c o c' o' → (∀ a, a ≠ n + 12 → E' a = E a) → b_ok τ'.length (bw_p (E' (n + 12))) → (∀ g, b_s g (bw_p (E' (n + 12))) = b_s g (bw_p (E (n + 12))) + b_s (fun x => g (x_vals (gT G) (gsl G) (n_list (gX G) n) x)) (bw_p ((E (n_left (gX G) n + 12)).drop k))) → cw (D + 1) 266 (am_blk 266 13) [n, z1, z] [] c' Q) → cw (D + 1) 266 (am_blk 266 7) [n, z1, (k : Int)] [] c Q := by
  have hwl : ∀ e ∈ n_list (gX G) n, ∃ t, x_wt (gT G) (gsl G) (gct G) τ 121 e t := by
    have key : ∀ (es : List Nat) (σ : List Int), x_wts (gT G) (gsl G) (gct G) τ es σ → ∀ e ∈ es, ∃ t, x_wt (gT G) (gsl G) (gct G) τ 121 e t := by
      intro es
      induction es with
      | nil => intro σ _ e he; cases he
      | cons e0 es ih =>
        intro σ hs e he
        obtain ⟨t, σ', h1, h2, -⟩ := hs
        rcases List.mem_cons.mp he with q | q
        · subst q; exact ⟨t, h1⟩
        · exact ih σ' h2 e q
    exact key _ _ hx
  intro m
  induction m with
  | zero =>
    intro k c E P o hk h hs hrow hU hm kk
    have e0 : (E (n_left (gX G) n + 12)).drop k = [] := List.drop_of_length_le (by omega)
    refine u266_7 ⟨h.rn hn, ?_⟩
    rw [h.lft hn, h.dlt hl]
    refine ⟨h.rn hl, h.rb (h.g12 hl), k_bsize (h.bag (h.g12 hl)) ⟨fun _ => ?_, fun q => absurd (by omega) q⟩⟩
    refine kk c E P o _ h (nx.rf c o) (fun _ _ => rfl) hs (fun g => ?_)
    rw [e0]; show _ = _ + 0; omega
  | succ m ih =>
    intro k c E P o hk h hs hrow hU hm kk
    have hk1 : k < (E (n_left (gX G) n + 12)).length := by omega
    have hg := List.getElem?_eq_getElem hk1
    have hd := List.drop_eq_getElem_cons hk1
    generalize hE : (E (n_left (gX G) n + 12))[k] = e0 at *
    have hmem : e0 ∈ E (n_left (gX G) n + 12) := List.mem_of_getElem? hg
    have hlb := h.le (h.g12 hl)
    rw [hd, bp_cons, b_m_cons] at hm
    have hpos := b_m_pos (L := bw_p ((E (n_left (gX G) n + 12)).drop (k + 1)))
    have hpos2 := b_m_pos (L := bw_p (E (n + 12)))
    obtain ⟨q1, q2, q3, q4⟩ := h.own (h.g12 hl) hmem hn
    obtain ⟨d, rfl⟩ : ∃ d, D = d + 4 := ⟨D - 4, by omega⟩
    refine u266_7 ⟨h.rn hn, ?_⟩
    rw [h.lft hn, h.dlt hl]
    refine ⟨h.rn hl, h.rb (h.g12 hl), k_bsize (h.bag (h.g12 hl)) ?_⟩
    rw [h.lft hn, h.dlt hl]
    refine ⟨fun q => absurd q (by omega), fun _ => ⟨h.rn hn, h.rn hl, h.rb (h.g12 hl), k_brow (h.bag (h.g12 hl)) hg ⟨h.rn hn, h.rn hn, ?_⟩⟩⟩
    rw [h.row hn]
    refine n_values (D := d + 3) h hn (by omega) (hrow e0 hmem).1 q4 (h.rowok hn) q1 h8 hlt hwl (fun c1 s1 v1 _ => ?_)
    obtain ⟨I1, x1⟩ := h.scr hn (s1.mono (fun q a hw => by unfold scw; rcases hw with hw | hw; exact Or.inl hw; exact Or.inr (Or.inl hw)))
    have hw1 := am_w1 (k := k) (by omega)
    rw [I1.lft hn, I1.dlt hl, I1.dlt hn, I1.row hn]
    refine ⟨I1.rn hn, I1.rn hn, I1.rn hn, I1.rn hl, I1.rb (I1.g12 hl), k_btimes (I1.bag (I1.g12 hl)) hg ⟨I1.rb (I1.g12 hn), ?_⟩⟩
    have hvl : (x_vals (gT G) (gsl G) (n_list (gX G) n) e0.2.1).length = τ'.length := by unfold x_vals; rw [List.length_map, x_wts_len _ _ hx]
    refine n_add I1 (I1.g12 hn) hs v1 hvl (by rw [I1.or1 hn]; decide) hU (hrow e0 hmem).2 hcap (by omega) (fun c2 E2 P2 o2 I2 bx2 ea2 hs2 hb2 hm2 hU2 => ?_)
    have eL : E2 (n_left (gX G) n + 12) = E (n_left (gX G) n + 12) := ea2 _ (by omega)
    rw [hw1]
    refine ih (k + 1) c2 E2 P2 o2 (by rw [eL]; omega) I2 hs2 (by rw [eL]; exact hrow) hU2 (by rw [eL]; omega) (fun c3 E3 P3 o3 z I3 x3 ea3 hs3 hb3 => ?_)
    refine kk c3 E3 P3 o3 z I3 ((x1.tr bx2.nx).tr x3) (fun y hy => (ea3 y hy).trans (ea2 y hy)) hs3 (fun g => ?_)
    rw [hb3, hb2, eL, hd, bp_cons, b_s_cons]
    omega
end
