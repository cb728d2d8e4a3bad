set_option maxRecDepth 100000
/-! nodes: joins -/
section
variable {G : nG} {c c' c2 : cs_S} {E E' : Int → bw_L} {P P' : List Int} {o o' o2 : Int → Int} {a b n r x : Int} {l m : rwt} {U L L' R R' F F' : List rwt} {Q : Int → cs_S → Prop} {d w D N : Nat} {τ τl τr : List Int} {t v z1 z2 s : Int}
theorem b_s_mul {D : List (rwt × Int)} {g : rwt → Int} {k : Int} : b_s (fun x => k * g x) D = k * b_s g D := by
  induction D with
  | nil => simp [b_s]
  | cons e D ih =>
    rw [b_s_cons, b_s_cons, ih, Int.mul_add]
    congr 1
    rw [← Int.mul_assoc, ← Int.mul_assoc, Int.mul_comm e.2 k]
theorem n_pairs2 (hn : n ∈ gA G) (ha : a ∈ gb G) (hb : b ∈ gb G) (han : a ≠ n + 12) (hbn : b ≠ n + 12) (hD : 260 ≤ D) (hs1 : s = 1 ∨ s = -1) (hc0 : 0 ≤ n_cond (gX G) n) (hc : n_cond (gX G) n < gN G) (hw : x_wt (gT G) (gsl G) (gct G) (τl ++ τr) 121 (n_cond (gX G) n).toNat t) (h24 : (τl ++ τr).length ≤ 24) (hcap : (U.length : Int) ≤ gcp G (n + 12)) {k : Nat} {e0 : Int × rwt × Int} : ∀ (m q : Nat) (c : cs_S) (E : Int → bw_L) (P : List Int) (o : Int → Int), q + m = (E b).length → (E a)[k]? = some e0 → NI G c E P o → b_ok (τl ++ τr).length (bw_p (E (n + 12))) → rg τl e0.2.1 → (∀ e ∈ E b, rg τr e.2.1 ∧ (x_tr (gT G) (gsl G) (n_cond (gX G) n).toNat (e0.2.1 ++ e.2.1) = true → e0.2.1 ++ e.2.1 ∈ U)) → (∀ e ∈ E (n + 12), e.2.1 ∈ U) → (e0.2.2.natAbs : Int) ≤ 4096 → b_m (bw_p (E b)) ≤ 4096 → b_m (bw_p (E (n + 12))) + 4096 * b_m (bw_p ((E b).drop q)) < 2147483648 →
    (∀ c' E' P' o' z, NI G c' E' P' o' → nx c o c' o' → (∀ a, a ≠ n + 12 → E' a = E a) → b_ok (τl ++ τr).length (bw_p (E' (n + 12))) → (∀ g, b_s g (bw_p (E' (n + 12))) = b_s g (bw_p (E (n + 12))) + s * (e0.2.2 * b_s (fun y => if x_tr (gT G) (gsl G) (n_cond (gX G) n).toNat (e0.2.1 ++ y) then g (e0.2.1 ++ y) else 0) (bw_p ((E b).drop q)))) → b_m (bw_p (E' (n + 12))) ≤ b_m (bw_p (E (n + 12))) + (e0.2.2.natAbs : Int) * b_m (bw_p ((E b).drop q)) → (∀ e ∈ E' (n + 12), e.2.1 ∈ U) → cw (D + 1) 268 (am_blk 268 1) [n, a, b, s, ((k + 1 : Nat) : Int), z] [] c' Q) → cw (D + 1) 268 (am_blk 268 2) [n, a, b, s, (k : Int), (q : Int)] [] c Q := by
  intro m
  induction m with
  | zero =>
    intro q c E P o hk hke h hs hrow1 hrow hU hn1 hn2 hm kk
    have e1 : (E b).drop q = [] := List.drop_of_length_le (by omega)
    have hk0 := (List.getElem?_eq_some_iff.mp hke).1
    have hla := h.le ha
    refine u268_2 ⟨h.rb hb, k_bsize (h.bag hb) ⟨fun _ => ?_, fun w => absurd (by omega) w⟩⟩
    rw [am_w1 (by omega)]
    refine kk c E P o _ h (nx.rf c o) (fun _ _ => rfl) hs (fun g => ?_) ?_ hU
    · rw [e1]; show _ = _ + s * (e0.2.2 * 0); rw [Int.mul_zero, Int.mul_zero]; omega
    · rw [e1]; show _ ≤ _ + _ * 0; rw [Int.mul_zero]; omega
  | succ m ih =>
    intro q c E P o hk hke h hs hrow1 hrow hU hn1 hn2 hm kk
    have hk1 : q < (E b).length := by omega
    have hg := List.getElem?_eq_getElem hk1
    have hd := List.drop_eq_getElem_cons hk1
    generalize hE : (E b)[q] = e1 at *
    have hmem : e1 ∈ E b := List.mem_of_getElem? hg
    have hmema : e0 ∈ E a := List.mem_of_getElem? hke
    have hlb := h.le hb
    have hpos2 := b_m_pos (L := bw_p (E (n + 12)))
    have hpos := b_m_pos (L := bw_p ((E b).drop (q + 1)))
    have hle1 : (e1.2.2.natAbs : Int) ≤ 4096 := by have := b_m_mem (bp_mem hmem); omega
    rw [hd, bp_cons, b_m_cons] at hm
    obtain ⟨p1, p2, p3, p4⟩ := h.own ha hmema hn
    obtain ⟨q1, q2, q3, q4⟩ := h.own hb hmem hn
    have hlen : e0.2.1.length + e1.2.1.length ≤ 24 := by
      rw [hrow1.1, (hrow e1 hmem).1.1]; rw [List.length_append] at h24; exact h24
    refine u268_2 ⟨h.rb hb, k_bsize (h.bag hb) ⟨fun w => absurd w (by omega), fun _ => ⟨h.rb ha, k_brow (h.bag ha) hke ⟨h.rb hb, k_brow (h.bag hb) hg ⟨h.rn hn, ?_⟩⟩⟩⟩⟩
    obtain ⟨d, rfl⟩ : ∃ d, D = d + 4 := ⟨D - 4, by omega⟩
    refine n_pair (D := d + 3) h hn (by omega) hc0 hc hw p4 q4 p1 q1 (hrow1.app (hrow e1 hmem).1) hlen (fun c1 s1 r1 => ?_)
    obtain ⟨I1, x1⟩ := h.scr hn s1
    have hw1 := am_w1 (k := q) (by omega)
    have hsplit : ∀ g : rwt → Int, b_s (fun y => if x_tr (gT G) (gsl G) (n_cond (gX G) n).toNat (e0.2.1 ++ y) then g (e0.2.1 ++ y) else 0) (bw_p ((E b).drop q)) = e1.2.2 * (if x_tr (gT G) (gsl G) (n_cond (gX G) n).toNat (e0.2.1 ++ e1.2.1) then g (e0.2.1 ++ e1.2.1) else 0) + b_s (fun y => if x_tr (gT G) (gsl G) (n_cond (gX G) n).toNat (e0.2.1 ++ y) then g (e0.2.1 ++ y) else 0) (bw_p ((E b).drop (q + 1))) := by
      intro g; rw [hd, bp_cons, b_s_cons]
    have hmd : b_m (bw_p ((E b).drop q)) = e1.2.2.natAbs + b_m (bw_p ((E b).drop (q + 1))) := by rw [hd, bp_cons, b_m_cons]
    by_cases p : x_tr (gT G) (gsl G) (n_cond (gX G) n).toNat (e0.2.1 ++ e1.2.1) = true
    · rw [if_pos p]
      refine ⟨fun w => absurd w (by decide), fun _ => ⟨I1.rn hn, I1.rn hn, I1.rb ha, k_btimes (I1.bag ha) hke ⟨I1.rb hb, k_btimes (I1.bag hb) hg ?_⟩⟩⟩
      rw [I1.dlt hn, I1.row hn]
      have habs : ((e0.2.2 * e1.2.2).natAbs : Int) ≤ 4096 * e1.2.2.natAbs := by
        rw [Int.natAbs_mul]
        have := Nat.mul_le_mul_right e1.2.2.natAbs (show e0.2.2.natAbs ≤ 4096 by omega)
        omega
      have habs2 : ((e0.2.2 * e1.2.2).natAbs : Int) = (e0.2.2.natAbs : Int) * e1.2.2.natAbs := by rw [Int.natAbs_mul]; exact Int.natCast_mul _ _
      have hv : am_w (am_w (s * e0.2.2) * e1.2.2) = s * (e0.2.2 * e1.2.2) := by
        have e3 : am_w (s * e0.2.2) = s * e0.2.2 := by rcases hs1 with rfl | rfl <;> exact am_w_in (by omega) (by omega)
        rw [e3, Int.mul_assoc]
        rcases hs1 with rfl | rfl <;> exact am_w_in (by omega) (by omega)
      have hvn : ((s * (e0.2.2 * e1.2.2)).natAbs : Int) = ((e0.2.2 * e1.2.2).natAbs : Int) := by rcases hs1 with rfl | rfl <;> omega
      rw [hv]
      refine ⟨I1.rb (I1.g12 hn), n_add I1 (I1.g12 hn) hs r1 (by rw [List.length_append, List.length_append, hrow1.1, (hrow e1 hmem).1.1]) (by rw [I1.or1 hn]; decide) hU ((hrow e1 hmem).2 p) hcap (by omega) (fun c2 E2 P2 o2 I2 bx2 ea2 hs2 hb2 hm2 hU2 => u268_3 ?_)⟩
      have eb : E2 b = E b := ea2 _ hbn
      have eA : E2 a = E a := ea2 _ han
      rw [hw1]
      refine ih (q + 1) c2 E2 P2 o2 (by rw [eb]; omega) (by rw [eA]; exact hke) I2 hs2 hrow1 (by rw [eb]; exact hrow) hU2 hn1 (by rw [eb]; exact hn2) (by rw [eb]; omega) (fun c3 E3 P3 o3 z I3 x3 ea3 hs3 hb3 hm3 hU3 => ?_)
      refine kk c3 E3 P3 o3 z I3 ((x1.tr bx2.nx).tr x3) (fun y hy => (ea3 y hy).trans (ea2 y hy)) hs3 (fun g => ?_) ?_ hU3
      · rw [hb3, hb2, eb, hsplit, if_pos p, Int.mul_add, Int.mul_add, ← Int.mul_assoc e0.2.2, ← Int.mul_assoc s (e0.2.2 * e1.2.2)]; omega
      · rw [eb] at hm3; rw [hmd, Int.mul_add]; omega
    · rw [if_neg p]
      refine ⟨fun _ => u268_3 ?_, fun w => absurd rfl w⟩
      rw [hw1]
      refine ih (q + 1) c1 E P o (by omega) hke I1 hs hrow1 hrow hU hn1 hn2 (by omega) (fun c3 E3 P3 o3 z I3 x3 ea3 hs3 hb3 hm3 hU3 => ?_)
      refine kk c3 E3 P3 o3 z I3 (x1.tr x3) ea3 hs3 (fun g => ?_) ?_ hU3
      · rw [hb3, hsplit, if_neg p, Int.mul_zero, Int.zero_add]
      · rw [hmd, Int.mul_add]
        have : 0 ≤ (e0.2.2.natAbs : Int) * (e1.2.2.natAbs : Int) := Int.mul_nonneg (by omega) (by omega)
        omega
theorem n_pairs1 (hn : n ∈ gA G) (ha : a ∈ gb G) (hb : b ∈ gb G) (han : a ≠ n + 12) (hbn : b ≠ n + 12) (hD : 260 ≤ D) (hs1 : s = 1 ∨ s = -1) (hc0 : 0 ≤ n_cond (gX G) n) (hc : n_cond (gX G) n < gN G) (hw : x_wt (gT G) (gsl G) (gct G) (τl ++ τr) 121 (n_cond (gX G) n).toNat t) (h24 : (τl ++ τr).length ≤ 24) (hcap : (U.length : Int) ≤ gcp G (n + 12)) : ∀ (m k : Nat) (c : cs_S) (E : Int → bw_L) (P : List Int) (o : Int → Int) (z0 : Int), k + m = (E a).length → NI G c E P o → b_ok (τl ++ τr).length (bw_p (E (n + 12))) → (∀ e ∈ E a, rg τl e.2.1) → (∀ e ∈ E b, rg τr e.2.1) → (∀ e ∈ E a, ∀ e' ∈ E b, x_tr (gT G) (gsl G) (n_cond (gX G) n).toNat (e.2.1 ++ e'.2.1) = true → e.2.1 ++ e'.2.1 ∈ U) → (∀ e ∈ E (n + 12), e.2.1 ∈ U) → b_m (bw_p (E a)) ≤ 4096 → b_m (bw_p (E b)) ≤ 4096 → b_m (bw_p (E (n + 12))) + 4096 * b_m (bw_p ((E a).drop k)) < 1000000000 →
    (∀ c' E' P' o', NI G c' E' P' o' → nx c o c' o' → (∀ a, a ≠ n + 12 → E' a = E a) → b_ok (τl ++ τr).length (bw_p (E' (n + 12))) → (∀ g, b_s g (bw_p (E' (n + 12))) = b_s g (bw_p (E (n + 12))) + s * b_pr (x_tr (gT G) (gsl G) (n_cond (gX G) n).toNat) g (bw_p ((E a).drop k)) (bw_p (E b))) → b_m (bw_p (E' (n + 12))) ≤ b_m (bw_p (E (n + 12))) + 4096 * b_m (bw_p ((E a).drop k)) → (∀ e ∈ E' (n + 12), e.2.1 ∈ U) → Q 0 c') → cw (D + 1) 268 (am_blk 268 1) [n, a, b, s, (k : Int), z0] [] c Q := by
  intro m
  induction m with
  | zero =>
    intro k c E P o z0 hk h hs hra hrb hrow hU hn1 hn2 hm kk
    have e1 : (E a).drop k = [] := List.drop_of_length_le (by omega)
    refine u268_1 ⟨h.rb ha, k_bsize (h.bag ha) ⟨fun _ => ?_, fun w => absurd (by omega) w⟩⟩
    refine kk c E P o h (nx.rf c o) (fun _ _ => rfl) hs (fun g => ?_) ?_ hU
    · rw [e1]; show _ = _ + s * 0; rw [Int.mul_zero]; omega
    · rw [e1]; show _ ≤ _ + _ * 0; omega
  | succ m ih =>
    intro k c E P o z0 hk h hs hra hrb hrow hU hn1 hn2 hm kk
    have hk1 : k < (E a).length := by omega
    have hg := List.getElem?_eq_getElem hk1
    have hd := List.drop_eq_getElem_cons hk1
    generalize hE : (E a)[k] = e0 at *
    have hmem : e0 ∈ E a := List.mem_of_getElem? hg
    have hpos2 := b_m_pos (L := bw_p (E (n + 12)))
    have hpos := b_m_pos (L := bw_p ((E a).drop (k + 1)))
    have hposb := b_m_pos (L := bw_p (E b))
    have hle1 : (e0.2.2.natAbs : Int) ≤ 4096 := by have := b_m_mem (bp_mem hmem); omega
    have hmd : b_m (bw_p ((E a).drop k)) = e0.2.2.natAbs + b_m (bw_p ((E a).drop (k + 1))) := by rw [hd, bp_cons, b_m_cons]
    refine u268_1 ⟨h.rb ha, k_bsize (h.bag ha) ⟨fun w => absurd w (by omega), fun _ => ?_⟩⟩
    have hin := n_pairs2 (Q := Q) (D := D) (U := U) (s := s) hn ha hb han hbn hD hs1 hc0 hc hw h24 hcap (k := k) (e0 := e0) (E b).length 0 c E P o (by omega) hg h hs (hra e0 hmem) (fun e he => ⟨hrb e he, hrow e0 hmem e he⟩) hU hle1 hn2 (by rw [List.drop_zero]; omega)
    refine hin (fun c1 E1 P1 o1 z I1 x1 ea1 hs2 hb2 hm2 hU2 => ?_)
    rw [List.drop_zero] at hb2 hm2
    have eb : E1 b = E b := ea1 _ hbn
    have eA : E1 a = E a := ea1 _ han
    have hmul : (e0.2.2.natAbs : Int) * b_m (bw_p (E b)) ≤ e0.2.2.natAbs * 4096 := Int.mul_le_mul_of_nonneg_left hn2 (by omega)
    refine ih (k + 1) c1 E1 P1 o1 z (by rw [eA]; omega) I1 hs2 (by rw [eA]; exact hra) (by rw [eb]; exact hrb) (by rw [eA, eb]; exact hrow) hU2 (by rw [eA]; exact hn1) (by rw [eb]; exact hn2) (by rw [eA]; omega) (fun c3 E3 P3 o3 I3 x3 ea3 hs3 hb3 hm3 hU3 => ?_)
    refine kk c3 E3 P3 o3 I3 (x1.tr x3) (fun y hy => (ea3 y hy).trans (ea1 y hy)) hs3 (fun g => ?_) ?_ hU3
    · rw [hb3, hb2, eA, eb]
      unfold b_pr
      rw [hd, bp_cons, b_s_cons, Int.mul_add]
      omega
    · rw [eA] at hm3; rw [hmd]; omega
theorem n_pairs (h : NI G c E P o) (hn : n ∈ gA G) (ha : a ∈ gb G) (hb : b ∈ gb G) (han : a ≠ n + 12) (hbn : b ≠ n + 12) (hD : 260 ≤ D) (hs1 : s = 1 ∨ s = -1) (hc0 : 0 ≤ n_cond (gX G) n) (hc : n_cond (gX G) n < gN G) (hw : x_wt (gT G) (gsl G) (gct G) (τl ++ τr) 121 (n_cond (gX G) n).toNat t) (h24 : (τl ++ τr).length ≤ 24) (hcap : (U.length : Int) ≤ gcp G (n + 12)) (hs : b_ok (τl ++ τr).length (bw_p (E (n + 12)))) (hra : ∀ e ∈ E a, rg τl e.2.1) (hrb : ∀ e ∈ E b, rg τr e.2.1) (hrow : ∀ e ∈ E a, ∀ e' ∈ E b, x_tr (gT G) (gsl G) (n_cond (gX G) n).toNat (e.2.1 ++ e'.2.1) = true → e.2.1 ++ e'.2.1 ∈ U) (hU : ∀ e ∈ E (n + 12), e.2.1 ∈ U) (hn1 : b_m (bw_p (E a)) ≤ 4096) (hn2 : b_m (bw_p (E b)) ≤ 4096) (hm : b_m (bw_p (E (n + 12))) ≤ 500000000)
    (kk : ∀ c' E' P' o', NI G c' E' P' o' → nx c o c' o' → (∀ a, a ≠ n + 12 → E' a = E a) → b_ok (τl ++ τr).length (bw_p (E' (n + 12))) → (∀ g, b_s g (bw_p (E' (n + 12))) = b_s g (bw_p (E (n + 12))) + s * b_pr (x_tr (gT G) (gsl G) (n_cond (gX G) n).toNat) g (bw_p (E a)) (bw_p (E b))) → b_m (bw_p (E' (n + 12))) ≤ b_m (bw_p (E (n + 12))) + 16777216 → (∀ e ∈ E' (n + 12), e.2.1 ∈ U) → Q 0 c') : knode_pairs (D + 1) n a b s c Q := by
  refine u268_e (n_pairs1 (U := U) hn ha hb han hbn hD hs1 hc0 hc hw h24 hcap (E a).length 0 c E P o 0 (by omega) h hs hra hrb hrow hU hn1 hn2 (by rw [List.drop_zero]; omega) (fun c' E' P' o' I x ea h1 h2 h3 h4 => ?_))
  rw [List.drop_zero] at h2 h3
  exact kk c' E' P' o' I x ea h1 h2 (by omega) h4
/-- what is fresh less what was alone -/
theorem n_differ0 (hn : n ∈ gA G) (hD : 10 ≤ D) (hcap : (U.length : Int) ≤ gcp G (n + 12)) (hcapA : (F'.length : Int) ≤ gcp G (n + 15)) : ∀ (m k : Nat) (c : cs_S) (E : Int → bw_L) (P : List Int) (o : Int → Int), k + m = (E (n + 15)).length → NI G c E P o → b_ok w (bw_p (E (n + 12))) → (∀ e ∈ E (n + 15), e.2.1.length = w ∧ e.2.1 ∈ U) → (∀ e ∈ E (n + 12), e.2.1 ∈ U) → b_ok w (bw_p (E (n + 18))) → b_is (bw_p (E (n + 18))) F' → b_m (bw_p (E (n + 15))) ≤ 4096 → F'.length ≤ 4096 → b_m (bw_p (E (n + 12))) + b_m (bw_p ((E (n + 15)).drop k)) < 2147483648 →
    (∀ c' E' P' o', NI G c' E' P' o' → bx c o c' o' → (∀ a, a ≠ n + 12 → a ≠ n + 15 → E' a = E a) → b_ok w (bw_p (E' (n + 12))) → (∀ g, b_s g (bw_p (E' (n + 12))) = b_s g (bw_p (E (n + 12))) - b_s g (bw_p ((E (n + 15)).drop k))) → (∀ e ∈ E' (n + 12), e.2.1 ∈ U) → b_ok w (bw_p (E' (n + 15))) → b_is (bw_p (E' (n + 15))) F' → Q 0 c') → cw (D + 1) 271 (am_blk 271 1) [n, (k : Int)] [] c Q := by
  intro m
  induction m with
  | zero =>
    intro k c E P o hk h hs hrow hU hs18 hi18 hm15 hF hm kk
    have e1 : (E (n + 15)).drop k = [] := List.drop_of_length_le (by omega)
    obtain ⟨d, rfl⟩ : ∃ d, D = d + 5 := ⟨D - 5, by omega⟩
    refine u271_1 ⟨h.rn hn, ?_⟩
    rw [h.aln hn]
    refine ⟨h.rb (h.g15 hn), k_bsize (h.bag (h.g15 hn)) ⟨fun _ => ⟨h.rn hn, ?_⟩, fun w => absurd (by omega) w⟩⟩
    rw [h.aln hn]
    refine ⟨h.rb (h.g15 hn), n_clear (d := d + 3) h (h.g15 hn) (fun c1 E1 P1 o1 I1 b1 ea1 hz => ⟨I1.rn hn, I1.rn hn, ?_⟩)⟩
    rw [I1.aln hn, I1.frs hn]
    have e18 : E1 (n + 18) = E (n + 18) := ea1 _ (by omega)
    have e12 : E1 (n + 12) = E (n + 12) := ea1 _ (by omega)
    have hm18 := hi18.m hs18
    refine ⟨I1.rb (I1.g15 hn), n_addAll (U := F') (w := w) I1 (I1.g15 hn) (I1.g18 hn) (by omega) (by rw [hz]; exact b_ok_nil w) (by rw [e18]; exact fun e he => (hs18.1 _ (bp_mem he)).1) (by rw [hz]; intro e he; cases he) (by rw [e18]; exact fun e he => (hi18.mem hs18 (bp_mem he)).2) hcapA (by rw [hz, e18]; show 0 + _ < _; omega) (fun c2 E2 P2 o2 I2 b2 ea2 hs2 hb2 hm2 _ => ?_)⟩
    refine kk c2 E2 P2 o2 I2 (b1.tr b2) (fun y hy1 hy2 => (ea2 y hy2).trans (ea1 y hy2)) ?_ (fun g => ?_) ?_ hs2 (fun g => ?_)
    · rw [ea2 _ (by omega), e12]; exact hs
    · rw [ea2 _ (by omega), e12, e1]; show _ = _ - 0; omega
    · rw [ea2 _ (by omega), e12]; exact hU
    · rw [hb2, hz, e18, hi18]; show 0 + _ = _; omega
  | succ m ih =>
    intro k c E P o hk h hs hrow hU hs18 hi18 hm15 hF hm kk
    have hk1 : k < (E (n + 15)).length := by omega
    have hg := List.getElem?_eq_getElem hk1
    have hd := List.drop_eq_getElem_cons hk1
    generalize hE : (E (n + 15))[k] = e0 at *
    have hmem : e0 ∈ E (n + 15) := List.mem_of_getElem? hg
    have hlb := h.le (h.g15 hn)
    have hle1 : (e0.2.2.natAbs : Int) ≤ 4096 := by have := b_m_mem (bp_mem hmem); omega
    have hmd : b_m (bw_p ((E (n + 15)).drop k)) = e0.2.2.natAbs + b_m (bw_p ((E (n + 15)).drop (k + 1))) := by rw [hd, bp_cons, b_m_cons]
    have hpos := b_m_pos (L := bw_p ((E (n + 15)).drop (k + 1)))
    have hpos2 := b_m_pos (L := bw_p (E (n + 12)))
    obtain ⟨q1, q2, q3, q4⟩ := h.own (h.g15 hn) hmem hn
    obtain ⟨d, rfl⟩ : ∃ d, D = d + 4 := ⟨D - 4, by omega⟩
    refine u271_1 ⟨h.rn hn, ?_⟩
    rw [h.aln hn]
    refine ⟨h.rb (h.g15 hn), k_bsize (h.bag (h.g15 hn)) ⟨fun w => absurd w (by omega), fun _ => ⟨h.rn hn, h.rn hn, ?_⟩⟩⟩
    rw [h.aln hn, h.dlt hn]
    refine ⟨h.rb (h.g15 hn), k_brow (h.bag (h.g15 hn)) hg ⟨h.rn hn, ?_⟩⟩
    rw [h.aln hn]
    refine ⟨h.rb (h.g15 hn), k_btimes (h.bag (h.g15 hn)) hg ⟨h.rb (h.g12 hn), ?_⟩⟩
    rw [am_w_in (by omega) (by omega)]
    refine n_add h (h.g12 hn) hs q4 (hrow e0 hmem).1 q3 hU (hrow e0 hmem).2 hcap (by omega) (fun c2 E2 P2 o2 I2 bx2 ea2 hs2 hb2 hm2 hU2 => ?_)
    have e15 : E2 (n + 15) = E (n + 15) := ea2 _ (by omega)
    have e18 : E2 (n + 18) = E (n + 18) := ea2 _ (by omega)
    rw [am_w1 (by omega)]
    refine ih (k + 1) c2 E2 P2 o2 (by rw [e15]; omega) I2 hs2 (by rw [e15]; exact hrow) hU2 (by rw [e18]; exact hs18) (by rw [e18]; exact hi18) (by rw [e15]; exact hm15) hF (by rw [e15]; omega) (fun c3 E3 P3 o3 I3 b3 ea3 hs3 hb3 hU3 hs4 hi4 => ?_)
    refine kk c3 E3 P3 o3 I3 (bx2.tr b3) (fun y hy1 hy2 => (ea3 y hy1 hy2).trans (ea2 y hy1)) hs3 (fun g => ?_) hU3 hs4 hi4
    rw [hb3, hb2, e15, hd, bp_cons, b_s_cons, Int.neg_mul]
    omega
theorem n_differ (h : NI G c E P o) (hn : n ∈ gA G) (hD : 10 ≤ D) (hcap : (U.length : Int) ≤ gcp G (n + 12)) (hcapA : (F'.length : Int) ≤ gcp G (n + 15)) (hs : b_ok w (bw_p (E (n + 12)))) (hU : ∀ e ∈ E (n + 12), e.2.1 ∈ U) (hs15 : b_ok w (bw_p (E (n + 15)))) (hi15 : b_is (bw_p (E (n + 15))) F) (hFU : ∀ x ∈ F, x ∈ U) (hs18 : b_ok w (bw_p (E (n + 18)))) (hi18 : b_is (bw_p (E (n + 18))) F') (hFU' : ∀ x ∈ F', x ∈ U) (hF : F.length ≤ 4096) (hF' : F'.length ≤ 4096) (hm : b_m (bw_p (E (n + 12))) < 1000000000)
    (kk : ∀ c' E' P' o', NI G c' E' P' o' → bx c o c' o' → (∀ a, a ≠ n + 12 → a ≠ n + 15 → E' a = E a) → b_ok w (bw_p (E' (n + 12))) → (∀ g, b_s g (bw_p (E' (n + 12))) = b_s g (bw_p (E (n + 12))) + ls g F' - ls g F) → (∀ e ∈ E' (n + 12), e.2.1 ∈ U) → b_ok w (bw_p (E' (n + 15))) → b_is (bw_p (E' (n + 15))) F' → Q 0 c') : knode_differ (D + 1) n c Q := by
  obtain ⟨d, rfl⟩ : ∃ d, D = d + 5 := ⟨D - 5, by omega⟩
  have hm15 := hi15.m hs15
  have hm18 := hi18.m hs18
  refine u271_e ⟨h.rn hn, h.rn hn, ?_⟩
  rw [h.dlt hn, h.frs hn]
  refine ⟨h.rb (h.g12 hn), n_addAll (U := U) (w := w) h (h.g12 hn) (h.g18 hn) (by omega) hs (fun e he => (hs18.1 _ (bp_mem he)).1) hU (fun e he => hFU' _ (hi18.mem hs18 (bp_mem he)).2) hcap (by omega) (fun c1 E1 P1 o1 I1 b1 ea1 hs1 hb1 hm1 hU1 => ?_)⟩
  have e15 : E1 (n + 15) = E (n + 15) := ea1 _ (by omega)
  have e18 : E1 (n + 18) = E (n + 18) := ea1 _ (by omega)
  refine n_differ0 (F' := F') (w := w) hn (by omega) hcap hcapA (E1 (n + 15)).length 0 c1 E1 P1 o1 (by omega) I1 hs1 (by rw [e15]; exact fun e he => ⟨(hs15.1 _ (bp_mem he)).1, hFU _ (hi15.mem hs15 (bp_mem he)).2⟩) hU1 (by rw [e18]; exact hs18) (by rw [e18]; exact hi18) (by rw [e15]; omega) hF' (by rw [e15, List.drop_zero]; omega) (fun c2 E2 P2 o2 I2 b2 ea2 hs2 hb2 hU2 hs3 hi3 => ?_)
  refine kk c2 E2 P2 o2 I2 (b1.tr b2) (fun y hy1 hy2 => (ea2 y hy1 hy2).trans (ea1 y hy1)) hs2 (fun g => ?_) hU2 hs3 hi3
  rw [hb2, hb1, e15, List.drop_zero, hi18, hi15]
end
