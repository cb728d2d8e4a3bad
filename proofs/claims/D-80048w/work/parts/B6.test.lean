set_option maxRecDepth 100000
/-! readers: comparisons, is null, in ( ) -/
section
variable {K k : Nat} {V V1 V2 : pV} {act z : Int} {b : Int → Int} {n : Nat}
theorem eX.two {v1 v2 : Int} {tok beg : Nat} (hx : eX K V V1) (x2 : eX K (v_at V1 k) V2) (hk : vA V1 ≤ k) (hv1 : v1 = ((vN V1 - 1 : Nat) : Int)) (hv2 : v2 = ((vN V2 - 1 : Nat) : Int)) (ht : tok ≤ K) (hb : beg ≤ K) (ha : x_two act) : eX K V (v_add V2 (act, v1, v2, -1, -1, z) tok beg) := by
  have xo2 := hx.ox2 x2
  obtain ⟨a1, a2, a3, a4, a5, a6, a7, a8, a9, -⟩ := hx
  obtain ⟨b1, b2, b3, b4, b5, b6, b7, b8, b9, -⟩ := x2
  have b1 : eY K (vN V1) (v_at V1 k) V2 := b1
  have b2 : k < vA V2 := b2
  have b4 : vN V1 < vN V2 := b4
  have ha' := ha
  unfold x_two at ha'
  have xe : x_up (vT V2) (vN V2) (act, v1, v2, -1, -1, z) (vN V2) = (act, v1, v2, -1, -1, z) := x_up_eq _ _ _
  have hp : x_p (x_up (vT V2) (vN V2) (act, v1, v2, -1, -1, z)) K (vN V) (vN V2) := by
    refine ⟨fun _ => Or.inr (Or.inr (Or.inl ⟨?_, ?_, ?_⟩)), ?_, fun q => ?_⟩
    · unfold x_act; rw [xe]; exact ha
    · unfold x_a; rw [xe]; show _ ≤ v1 ∧ v1 < _; omega
    · unfold x_b; rw [xe]; show _ ≤ v2 ∧ v2 < _; omega
    · unfold x_act; rw [xe]; show act ≤ 29; omega
    · unfold x_act at q; rw [xe] at q; have q : 26 ≤ act := q; omega
  have y1 : eY K (vN V) V V2 := (a1.tr (eY.at V1 hk)).tr (b1.lw (by omega))
  refine ⟨y1.tr (eY.add hp ht hb (by show act < 25; omega)), by show vA V < vA V2; omega, b3, by show vN V < vN V2 + 1; omega, by show vD V2 = vD V; rw [b5]; exact a5, by show vS V2 = vS V; rw [b6]; exact a6, by show vM V2 = vM V; rw [b7]; exact a7, fun q => ?_, ?_, fun q => ?_, xo2.add (fun e he h1 h2 => ?_)⟩
  · show vG V2 = vG V
    rw [b8 (by show vM V1 = false; rw [a7]; exact q)]
    exact a8 q
  · show x_n (x_up (vT V2) (vN V2) (act, v1, v2, -1, -1, z)) (vN V2 + 1 - 1) = -1
    rw [Nat.add_sub_cancel]
    unfold x_n
    rw [xe]
  · exfalso
    have q : x_act (x_up (vT V2) (vN V2) (act, v1, v2, -1, -1, z)) (vN V2 + 1 - 1) = 3 := q
    rw [Nat.add_sub_cancel] at q
    unfold x_act at q
    rw [xe] at q
    have q : act = 3 := q
    omega
  · rcases he with he | he
    · exact x_kid_a ⟨by show 4 ≤ act; omega, by show act ≤ 24; omega⟩ (by show v1 = _; omega)
    · exact x_kid_b ⟨by show 4 ≤ act; omega, by show act ≤ 24; omega, by show act ≠ 15; omega, by show act ≠ 16; omega⟩ (by show v2 = _; omega)
theorem eX.one {v1 : Int} {tok beg : Nat} (hx : eX K V V1) (hk : vA V1 ≤ k) (hkK : k ≤ K) (hv1 : v1 = ((vN V1 - 1 : Nat) : Int)) (ht : tok ≤ K) (hb : beg ≤ K) (ha : act = 6 ∨ act = 13 ∨ act = 14 ∨ act = 22) : eX K V (v_add (v_at V1 k) (act, v1, -1, -1, -1, z) tok beg) := by
  have xo1 := hx.ox
  obtain ⟨a1, a2, a3, a4, a5, a6, a7, a8, a9, -⟩ := hx
  have xe : x_up (vT V1) (vN V1) (act, v1, -1, -1, -1, z) (vN V1) = (act, v1, -1, -1, -1, z) := x_up_eq _ _ _
  have hp : x_p (x_up (vT V1) (vN V1) (act, v1, -1, -1, -1, z)) K (vN V) (vN V1) := by
    refine ⟨fun _ => Or.inr (Or.inr (Or.inr (Or.inl ⟨?_, ?_, ?_⟩))), ?_, fun q => ?_⟩
    · unfold x_act; rw [xe]; exact ha
    · unfold x_a; rw [xe]; show _ ≤ v1 ∧ v1 < _; omega
    · unfold x_b; rw [xe]
    · unfold x_act; rw [xe]; show act ≤ 29; omega
    · unfold x_act at q; rw [xe] at q; have q : 26 ≤ act := q; omega
  refine ⟨(a1.tr (eY.at V1 hk)).tr (eY.add (V := v_at V1 k) hp ht hb (by show act < 25; omega)), by show vA V < k; omega, hkK, by show vN V < vN V1 + 1; omega, a5, a6, a7, a8, ?_, fun q => ?_, xo1.add (fun e he h1 h2 => x_kid_a ⟨by show 4 ≤ act; omega, by show act ≤ 24; omega⟩ (by show v1 = _; omega))⟩
  · show x_n (x_up (vT V1) (vN V1) (act, v1, -1, -1, -1, z)) (vN V1 + 1 - 1) = -1
    rw [Nat.add_sub_cancel]
    unfold x_n
    rw [xe]
  · exfalso
    have q : x_act (x_up (vT V1) (vN V1) (act, v1, -1, -1, -1, z)) (vN V1 + 1 - 1) = 3 := q
    rw [Nat.add_sub_cancel] at q
    unfold x_act at q
    rw [xe] at q
    have q : act = 3 := q
    omega
/-- lists -/
theorem x_li_snoc {T T' : xt} {l x : Nat} : ∀ (I : List Nat) (q : Int), x_li T q (I ++ [l]) → x_n T' l = (x : Int) → (∀ i ∈ I, x_n T' i = x_n T i) → x_n T' x < 0 → x_li T' q (I ++ [l] ++ [x]) := by
  intro I
  induction I with
  | nil =>
    intro q h h1 h2 h3
    obtain ⟨e1, -⟩ := h
    exact ⟨e1, h1, h3⟩
  | cons k I ih =>
    intro q h h1 h2 h3
    obtain ⟨e1, e2⟩ := h
    refine ⟨e1, ?_⟩
    rw [h2 k List.mem_cons_self]
    exact ih _ e2 h1 (fun i hi => h2 i (List.mem_cons_of_mem _ hi)) h3
def op_cmp (b : Int → Int) (n k : Nat) (act : Int) : Prop := (tk_is b n k (st_str (-68)) ∧ act = 7) ∨ (tk_is b n k (st_str (-70)) ∧ act = 8) ∨ (tk_is b n k (st_str (-72)) ∧ act = 9) ∨ (tk_is b n k (st_str (-74)) ∧ act = 10) ∨ (tk_is b n k (st_str (-76)) ∧ act = 11) ∨ (tk_is b n k (st_str (-78)) ∧ act = 12)
theorem op_cmp_s (h : op_cmp b n k act) : 7 ≤ act ∧ act ≤ 12 ∧ tk_s b n k = mk_how act := by
  unfold op_cmp at h
  rw [ts_61, ts_400, ts_60, ts_401, ts_62, ts_402] at h
  rcases h with ⟨h, rfl⟩ | ⟨h, rfl⟩ | ⟨h, rfl⟩ | ⟨h, rfl⟩ | ⟨h, rfl⟩ | ⟨h, rfl⟩ <;> exact ⟨by omega, by omega, by rw [h]; rfl⟩
theorem op_cmp_i : (∃ act, op_cmp b n k act) ↔ (tk_s b n k = 61 ∨ tk_s b n k = 400 ∨ tk_s b n k = 60 ∨ tk_s b n k = 401 ∨ tk_s b n k = 62 ∨ tk_s b n k = 402) := by
  unfold op_cmp
  rw [ts_61, ts_400, ts_60, ts_401, ts_62, ts_402]
  constructor
  · rintro ⟨act, h⟩; omega
  · rintro (h | h | h | h | h | h)
    · exact ⟨7, Or.inl ⟨h, rfl⟩⟩
    · exact ⟨8, Or.inr (Or.inl ⟨h, rfl⟩)⟩
    · exact ⟨9, Or.inr (Or.inr (Or.inl ⟨h, rfl⟩))⟩
    · exact ⟨10, Or.inr (Or.inr (Or.inr (Or.inl ⟨h, rfl⟩)))⟩
    · exact ⟨11, Or.inr (Or.inr (Or.inr (Or.inr (Or.inl ⟨h, rfl⟩))))⟩
    · exact ⟨12, Or.inr (Or.inr (Or.inr (Or.inr (Or.inr ⟨h, rfl⟩))))⟩
end
section
variable {c : cs_S} {pl R : Int} {b : Int → Int} {D n K : Nat} {V : pV} {Q : Int → cs_S → Prop}
theorem k_comp (h : CE c pl b n K R V) (hD : 3 ≤ D) (h1 : ∀ act, op_cmp b n (vA V) act → Q act c) (h0 : (∀ act, ¬ op_cmp b n (vA V) act) → Q (-1) c) : kplan_comparison D pl c Q := by
  obtain ⟨d, rfl⟩ : ∃ d', D = d' + 1 := ⟨D - 1, by omega⟩
  have hr := h.r
  have y : ∀ act, op_cmp b n (vA V) act → cw (d + 1) 71 (am_blk 71 7) [pl] [act] c Q := fun act q => u71_7 (h1 act q)
  refine u71_e ⟨hr, k_is h (by omega) (sty (by omega)) (fun q => ⟨fun w => absurd w (by omega), fun _ => y 7 (Or.inl ⟨q, rfl⟩)⟩) (fun n1 => ⟨fun _ => ⟨hr, ?_⟩, fun w => absurd rfl w⟩)⟩
  refine k_is h (by omega) (sty (by omega)) (fun q => ⟨fun w => absurd w (by omega), fun _ => y 8 (Or.inr (Or.inl ⟨q, rfl⟩))⟩) (fun n2 => ⟨fun _ => ⟨hr, ?_⟩, fun w => absurd rfl w⟩)
  refine k_is h (by omega) (sty (by omega)) (fun q => ⟨fun w => absurd w (by omega), fun _ => y 9 (Or.inr (Or.inr (Or.inl ⟨q, rfl⟩)))⟩) (fun n3 => ⟨fun _ => ⟨hr, ?_⟩, fun w => absurd rfl w⟩)
  refine k_is h (by omega) (sty (by omega)) (fun q => ⟨fun w => absurd w (by omega), fun _ => y 10 (Or.inr (Or.inr (Or.inr (Or.inl ⟨q, rfl⟩))))⟩) (fun n4 => ⟨fun _ => ⟨hr, ?_⟩, fun w => absurd rfl w⟩)
  refine k_is h (by omega) (sty (by omega)) (fun q => ⟨fun w => absurd w (by omega), fun _ => y 11 (Or.inr (Or.inr (Or.inr (Or.inr (Or.inl ⟨q, rfl⟩)))))⟩) (fun n5 => ⟨fun _ => ⟨hr, ?_⟩, fun w => absurd rfl w⟩)
  refine k_is h (by omega) (sty (by omega)) (fun q => ⟨fun w => absurd w (by omega), fun _ => y 12 (Or.inr (Or.inr (Or.inr (Or.inr (Or.inr ⟨q, rfl⟩)))))⟩) (fun n6 => ⟨fun _ => u71_7 (h0 (fun act q => ?_)), fun w => absurd rfl w⟩)
  rcases q with q | q | q | q | q | q
  · exact n1 q.1
  · exact n2 q.1
  · exact n3 q.1
  · exact n4 q.1
  · exact n5 q.1
  · exact n6 q.1
end
/-- the model: a node, and how -/
theorem ME.mkh {s : ms_S} {b : Int → Int} {n K si D : Nat} {R : Int} {V : pV} {P : Int → ms_S → Prop} {act a1 b1 z t7 hw : Int} {tok beg : Nat} (h : ME s b n K R si V) (hD : 1 ≤ D) (hN : vN V < 120) (ha : 7 ≤ act ∧ act ≤ 16) (hhw : hw = mk_how act) (hb1 : -1 ≤ b1) (kk : ∀ s' s4, s4 = ms_u s' 27 (vN V : Int) hw → ME s4 b n K R si (v_add V (act, a1, b1, -1, -1, z) tok beg) → eF si s s4 → P (vN V : Int) s') : md_make D (mk_kind act 0) a1 b1 (-1) (tk_p b n beg) t7 s P := by
  refine h.make hD hN (fun s' fr h22 rw_ => ?_)
  obtain ⟨w1, w2, w3, w4, w5, w6, w7, w8, w9⟩ := rw_
  have fr4 : mkF (vN V) s (ms_u s' 27 (vN V : Int) hw) := fr.tr (mkF.u (by omega) (by omega) (by omega))
  refine kk s' _ rfl (h.add hN fr4 (by rw [ms_u_f _ _ _ (by omega)]; exact h22) ⟨?_, fun q => ?_, fun q1 q2 => ?_, fun _ => ⟨?_, ?_⟩, ?_, ?_, fun q => ?_, ?_, hb1⟩ (by rw [ms_u_f _ _ _ (by omega)]; exact w7)) fr4.eF
  · rw [ms_u_f _ _ _ (by omega), w1]; exact (mk_kind_a (by show act ≠ 2; omega)).symm
  · have q : act = 0 := q; omega
  · rw [ms_u_eq]; exact hhw
  · rw [ms_u_f _ _ _ (by omega)]; exact w2
  · rw [ms_u_f _ _ _ (by omega)]; exact w3
  · rw [ms_u_f _ _ _ (by omega)]; exact w4
  · rw [ms_u_f _ _ _ (by omega)]; exact w9
  · have q : act = 3 := q; omega
  · show (-1 : Int) ≤ -1; omega
