set_option maxRecDepth 100000
/-! nodes: the first ones in order -/
def o_en (B : bw_L) (σ : List Nat) : bw_L := σ.filterMap (fun i => B[i]?)
section
variable {W : Nat → Int → Prop} {G : nG} {c c' c2 : cs_S} {E E' : Int → bw_L} {P P' : List Int} {o o' o2 : Int → Int} {a b n r x : Int} {l m k : rwt} {U L L' R R' F F' V K : List rwt} {Q : Int → cs_S → Prop} {d w D N Nl Nr : Nat} {τ τl τr : List Int} {t v z1 z2 s : Int} {es B : bw_L} {σ : List Nat}
theorem o_en_range : ∀ (B : bw_L), o_en B (List.range B.length) = B := by
  intro B
  apply List.ext_getElem?
  intro j
  unfold o_en
  have key : ∀ (B : bw_L) (k : Nat), k ≤ B.length → (List.range k).filterMap (fun i => B[i]?) = B.take k := by
    intro B k
    induction k with
    | zero => intro _; rfl
    | succ k ih =>
      intro hk
      rw [List.range_succ, List.filterMap_append, ih (by omega), List.take_succ_eq_append_getElem (by omega)]
      simp [List.getElem?_eq_getElem (show k < B.length by omega)]
  rw [key B B.length (Nat.le_refl _), List.take_length]
theorem o_en_perm (h : σ.Perm (List.range B.length)) : (o_en B σ).Perm B := by
  have := h.filterMap (fun i => B[i]?)
  have e := o_en_range B
  unfold o_en at *
  rw [e] at this
  exact this
theorem o_en_get (h : ∀ i ∈ σ, i < B.length) : ∀ {j i : Nat}, σ[j]? = some i → (o_en B σ)[j]? = B[i]? := by
  induction σ with
  | nil => intro j i hj; simp at hj
  | cons a σ ih =>
    intro j i hj
    have ha := h a List.mem_cons_self
    have e : o_en B (a :: σ) = B[a] :: o_en B σ := by
      unfold o_en; rw [List.filterMap_cons, List.getElem?_eq_getElem ha]
    rw [e]
    cases j with
    | zero => simp at hj; subst hj; simp [List.getElem?_eq_getElem ha]
    | succ j =>
      simp only [List.getElem?_cons_succ] at hj ⊢
      exact ih (fun i hi => h i (List.mem_cons_of_mem _ hi)) hj
theorem o_en_len (h : ∀ i ∈ σ, i < B.length) : (o_en B σ).length = σ.length := by
  induction σ with
  | nil => rfl
  | cons a σ ih =>
    have ha := h a List.mem_cons_self
    have e : o_en B (a :: σ) = B[a] :: o_en B σ := by
      unfold o_en; rw [List.filterMap_cons, List.getElem?_eq_getElem ha]
    rw [e, List.length_cons, List.length_cons, ih (fun i hi => h i (List.mem_cons_of_mem _ hi))]
/-- in order, each as often as it is there: the sorted rows -/
theorem o_en_srt {cmp : rwt → rwt → Int} (hσ : ∀ i ∈ σ, i < B.length) (hs : o_ps cmp B σ) (hg : ∀ e ∈ B, cmp e.2.1 e.2.1 = 0) : o_sd cmp (b_xp (bw_p (o_en B σ))) := by
  induction σ with
  | nil => exact List.Pairwise.nil
  | cons a σ ih =>
    have ha := hσ a List.mem_cons_self
    have e : o_en B (a :: σ) = B[a] :: o_en B σ := by
      unfold o_en; rw [List.filterMap_cons, List.getElem?_eq_getElem ha]
    unfold o_ps at hs
    rw [List.pairwise_cons] at hs
    have hi := ih (fun i hi => hσ i (List.mem_cons_of_mem _ hi)) hs.2
    rw [e, bp_cons]
    unfold b_xp at *
    rw [List.flatMap_cons]
    unfold o_sd at *
    rw [List.pairwise_append]
    refine ⟨?_, hi, fun x hx y hy => ?_⟩
    · rw [List.pairwise_replicate]
      right
      have := hg B[a] (List.getElem_mem ha)
      omega
    · rw [List.eq_of_mem_replicate hx]
      obtain ⟨e', he', hy'⟩ := List.mem_flatMap.mp hy
      rw [List.eq_of_mem_replicate hy']
      obtain ⟨e2, he2, rfl⟩ := List.mem_map.mp he'
      unfold o_en at he2
      obtain ⟨j, hj, hje⟩ := List.mem_filterMap.mp he2
      exact hs.1 j hj B[a] e2 (List.getElem?_eq_getElem ha) hje
theorem l_take_rep {A : List rwt} {y : rwt} {k q : Nat} : (A ++ List.replicate k y).take q = A.take q ++ List.replicate (min (q - A.length) k) y := by
  rw [List.take_append, List.take_replicate]
theorem n_top1 (hn : n ∈ gA G) (hl : n_left (gX G) n ∈ gA G) (hln : n_left (gX G) n + 21 ≤ n) (hD : 280 ≤ D) {M : Nat} (hM : M ≤ 100) (hσ : ∀ i ∈ σ, i < (E (n_left (gX G) n + 9)).length) (hσl : σ.length = (E (n_left (gX G) n + 9)).length) (h512 : (E (n_left (gX G) n + 9)).length ≤ 512) (hrow : ∀ e ∈ E (n_left (gX G) n + 9), e.2.1.length = w ∧ 0 < e.2.2 ∧ e.2.2 ≤ 1000000) (hcap : (((b_xp (bw_p (o_en (E (n_left (gX G) n + 9)) σ))).take M).length : Int) ≤ gcp G (n + 18))
    (kk : ∀ c' E' P' o', NI G c' E' P' o' → nx c o c' o' → (∀ a, a ≠ n + 18 → E' a = E a) → b_ok w (bw_p (E' (n + 18))) → b_is (bw_p (E' (n + 18))) ((b_xp (bw_p (o_en (E (n_left (gX G) n + 9)) σ))).take M) → knode_differ D n c' (fun _ c2 => Q 0 c2)) : ∀ (p q : Nat) (c1 : cs_S) (E1 : Int → bw_L) (P1 : List Int) (o1 : Int → Int) (y4 : Int), q + p = σ.length → NI G c1 E1 P1 o1 → nx c o c1 o1 → (∀ a, a ≠ n + 18 → E1 a = E a) → OS c1 n σ → b_ok w (bw_p (E1 (n + 18))) → b_is (bw_p (E1 (n + 18))) ((b_xp (bw_p ((o_en (E (n_left (gX G) n + 9)) σ).take q))).take M) → cw (D + 1) 279 (am_blk 279 1) [n, (σ.length : Int), ((M - (b_xp (bw_p ((o_en (E (n_left (gX G) n + 9)) σ).take q))).length : Nat) : Int), (q : Int), y4] [] c1 Q := by
  have hel := o_en_len hσ
  intro p
  induction p with
  | zero =>
    intro q c1 E1 P1 o1 y4 hq I1 x1 ea hos hs hi
    have htq : (o_en (E (n_left (gX G) n + 9)) σ).take q = o_en (E (n_left (gX G) n + 9)) σ := List.take_of_length_le (by omega)
    rw [htq] at hi
    exact u279_1 ⟨fun _ => u279_2 ⟨I1.rn hn, kk c1 E1 P1 o1 I1 x1 ea hs hi⟩, fun z => absurd (by omega) z⟩
  | succ p ih =>
    intro q c1 E1 P1 o1 y4 hq I1 x1 ea hos hs hi
    have hqs : q < σ.length := by omega
    have hsg := List.getElem?_eq_getElem hqs
    have hiB := hσ _ (List.getElem_mem hqs)
    generalize σ[q] = i0 at *
    have heg := o_en_get hσ hsg
    have hig := List.getElem?_eq_getElem hiB
    have htk : (o_en (E (n_left (gX G) n + 9)) σ).take (q + 1) = (o_en (E (n_left (gX G) n + 9)) σ).take q ++ [(E (n_left (gX G) n + 9))[i0]] := by
      rw [List.take_succ_eq_append_getElem (by omega)]
      congr 2
      rw [hig] at heg
      exact (List.getElem?_eq_some_iff.mp heg).2
    generalize hE0 : (E (n_left (gX G) n + 9))[i0] = e0 at *
    have hmem : e0 ∈ E (n_left (gX G) n + 9) := List.mem_of_getElem? hig
    obtain ⟨w1, w2, w3⟩ := hrow e0 hmem
    have el9 : E1 (n_left (gX G) n + 9) = E (n_left (gX G) n + 9) := ea _ (by omega)
    have hv := hos.2 q i0 hsg
    obtain ⟨os1, os2, os3⟩ := (I1.ns (I1.aS hn)).2.2.2.2.2.2.2.2.2.2.2.1
    have hol := hos.1
    unfold n_ol at hol
    have hxp : b_xp (bw_p ((o_en (E (n_left (gX G) n + 9)) σ).take (q + 1))) = b_xp (bw_p ((o_en (E (n_left (gX G) n + 9)) σ).take q)) ++ List.replicate e0.2.2.toNat e0.2.1 := by
      rw [htk, bp_app]; unfold b_xp; rw [List.flatMap_append]; simp [bw_p]
    have hfull : b_xp (bw_p (o_en (E (n_left (gX G) n + 9)) σ)) = b_xp (bw_p ((o_en (E (n_left (gX G) n + 9)) σ).take (q + 1))) ++ b_xp (bw_p ((o_en (E (n_left (gX G) n + 9)) σ).drop (q + 1))) := by
      have : bw_p (o_en (E (n_left (gX G) n + 9)) σ) = bw_p ((o_en (E (n_left (gX G) n + 9)) σ).take (q + 1)) ++ bw_p ((o_en (E (n_left (gX G) n + 9)) σ).drop (q + 1)) := by rw [← bp_app, List.take_append_drop]
      rw [this]; unfold b_xp; rw [List.flatMap_append]
    have hfull0 : b_xp (bw_p (o_en (E (n_left (gX G) n + 9)) σ)) = b_xp (bw_p ((o_en (E (n_left (gX G) n + 9)) σ).take q)) ++ b_xp (bw_p ((o_en (E (n_left (gX G) n + 9)) σ).drop q)) := by
      have : bw_p (o_en (E (n_left (gX G) n + 9)) σ) = bw_p ((o_en (E (n_left (gX G) n + 9)) σ).take q) ++ bw_p ((o_en (E (n_left (gX G) n + 9)) σ).drop q) := by rw [← bp_app, List.take_append_drop]
      rw [this]; unfold b_xp; rw [List.flatMap_append]
    generalize hpre : b_xp (bw_p ((o_en (E (n_left (gX G) n + 9)) σ).take q)) = pre at *
    refine u279_1 ⟨fun z => absurd z (by omega), fun _ => ⟨fun z => u279_2 ⟨I1.rn hn, kk c1 E1 P1 o1 I1 x1 ea hs ?_⟩, fun z => ⟨I1.rn hn, ?_⟩⟩⟩
    · rw [hfull0, List.take_append_of_le_length (by omega)]; exact hi
    · rw [I1.lft hn, I1.out hl, hv]
      have hb9 := I1.bag (I1.g9 hl)
      rw [el9] at hb9
      refine ⟨I1.rn hl, I1.rn hn, os1, by omega, by omega, I1.rb (I1.g9 hl), k_btimes hb9 hig ?_⟩
      have hmin : ∀ (Q' : Int → cs_S → Prop), Q' (min ((M - pre.length : Nat) : Int) e0.2.2) c1 → kmath_min D ((M - pre.length : Nat) : Int) e0.2.2 c1 Q' := by
        intro Q' hQ
        refine u302_e ⟨fun q => u302_2 ?_, fun q => u302_2 ?_⟩
        · have : min ((M - pre.length : Nat) : Int) e0.2.2 = e0.2.2 := by omega
          rw [this] at hQ; exact hQ
        · have : min ((M - pre.length : Nat) : Int) e0.2.2 = ((M - pre.length : Nat) : Int) := by omega
          rw [this] at hQ; exact hQ
      refine hmin _ ⟨I1.rn hn, I1.rn hn, ?_⟩
      rw [I1.lft hn, I1.out hl, hv, I1.frs hn]
      refine ⟨I1.rn hl, I1.rn hn, os1, by omega, by omega, I1.rb (I1.g9 hl), k_brow hb9 hig ⟨I1.rb (I1.g18 hn), ?_⟩⟩
      have hm18 := hi.m hs
      have hmemx : e0.2.1 ∈ (b_xp (bw_p (o_en (E (n_left (gX G) n + 9)) σ))).take M := by
        rw [hfull, hxp, List.append_assoc, List.take_append]
        refine List.mem_append_right _ ?_
        have h1 : 0 < M - pre.length := by omega
        have h2 : 0 < e0.2.2.toNat := by omega
        obtain ⟨t1, ht1⟩ : ∃ t1, e0.2.2.toNat = t1 + 1 := ⟨e0.2.2.toNat - 1, by omega⟩
        obtain ⟨t2, ht2⟩ : ∃ t2, M - pre.length = t2 + 1 := ⟨M - pre.length - 1, by omega⟩
        rw [ht1, ht2, List.replicate_succ, List.cons_append, List.take_succ_cons]
        exact List.mem_cons_self
      obtain ⟨d, rfl⟩ : ∃ d, D = d + 4 := ⟨D - 4, by omega⟩
      have hown := I1.own (I1.g9 hl) (e := e0) (by rw [el9]; exact hmem) hn
      have hpl : pre.take M = pre := List.take_of_length_le (by omega)
      have htn : ((min (M - pre.length) e0.2.2.toNat : Nat) : Int) = min ((M - pre.length : Nat) : Int) e0.2.2 := by omega
      rw [List.length_take] at hm18
      refine n_add (U := (b_xp (bw_p (o_en (E (n_left (gX G) n + 9)) σ))).take M) I1 (I1.g18 hn) hs hown.2.2.2 w1 hown.2.2.1 (fun e he => ?_) hmemx hcap (by omega) (fun c2 E2 P2 o2 I2 b2 ea2 hs2 hb2 hm2 hU2 => ?_)
      · have := (hi.mem hs (bp_mem he)).2
        rw [hpl] at this
        rw [hfull0, List.take_append]
        exact List.mem_append_left _ (by rw [hpl]; exact this)
      · rw [am_w1 (by omega), am_w_in (by omega) (by omega)]
        have hos2 : OS c2 n σ := by
          have en : c_r c1 n ≠ 0 := by rw [I1.rn hn]; decide
          have er : c_r c1 (c_v c1 426 n 0) ≠ 0 := by rw [os1]; decide
          have f1 := b2.1.v (q := 426) en (by unfold bw_w; omega) 0
          refine ⟨?_, fun j i hj => ?_⟩
          · unfold n_ol; rw [f1, b2.1.l er]; exact hos.1
          · rw [f1, b2.1.v er (by unfold bw_w; omega)]; exact hos.2 j i hj
        have hlen1 : (b_xp (bw_p ((o_en (E (n_left (gX G) n + 9)) σ).take (q + 1)))).length = pre.length + e0.2.2.toNat := by rw [hxp, List.length_append, List.length_replicate]
        have erest : ((M - pre.length : Nat) : Int) - min ((M - pre.length : Nat) : Int) e0.2.2 = ((M - (b_xp (bw_p ((o_en (E (n_left (gX G) n + 9)) σ).take (q + 1)))).length : Nat) : Int) := by rw [hlen1]; omega
        rw [erest]
        refine ih (q + 1) c2 E2 P2 o2 _ (by omega) I2 (x1.tr b2.nx) (fun y hy => (ea2 y hy).trans (ea y hy)) hos2 hs2 (fun g => ?_)
        rw [hb2, hi, hxp, l_take_rep, ls_app, ls_rep, htn]
end
