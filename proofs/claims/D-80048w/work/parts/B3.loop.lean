set_option maxRecDepth 100000
/-! readers: acts between their sides -/
section
variable {kX kS : Nat → Int → cs_S → (Int → cs_S → Prop) → Prop} {mX mS : Nat → ms_S → (Int → ms_S → Prop) → Prop} {kL : Nat → Int → Int → Int → Int → Int → cs_S → (Int → cs_S → Prop) → Prop} {mL : Nat → Int → Int → Int → Int → Int → ms_S → (Int → ms_S → Prop) → Prop} {op : (Int → Int) → Nat → Nat → Int → Prop} {B L : Nat} {bg : (Int → Int) → Nat → Nat → Bool → Prop}
theorem mk_kind_a {act z : Int} (h : act ≠ 2) : mk_kind act z = mk_kind act 0 := by unfold mk_kind; rw [if_neg (c := act = 2) h, if_neg (c := act = 2) h]
theorem r_loop (hB : 6 ≤ B) (hS : rX bg kS mS B L)
    (opx : ∀ {b : Int → Int} {n k : Nat} {act : Int}, op b n k act → (act = 4 ∨ act = 5 ∨ (17 ≤ act ∧ act ≤ 21)) ∧ ∃ w, tk_is b n k w)
    (e1 : ∀ (d : Nat) (pl : Int) (c : cs_S) (Q : Int → cs_S → Prop), c_r c pl = 1003 → kS d pl c (fun v c1 => ∀ y3 y4, kL d pl (c_v c 122 pl 0) v y3 y4 c1 Q) → kX (d + 1) pl c Q)
    (e2 : ∀ (d : Nat) (s : ms_S) (P : Int → ms_S → Prop), mS d s (fun v s1 => ∀ y3 y4 y5, mL d v (s1 74 0) y3 y4 y5 s1 P) → mX (d + 1) s P)
    (st : ∀ (d : Nat) (pl : Int) (b : Int → Int) (n K : Nat) (R : Int) (c : cs_S) (V : pV) (x1 x2 x3 x4 : Int) (Q : Int → cs_S → Prop), CE c pl b n K R V → 5 ≤ d → (∀ act, ¬ op b n (vA V) act) → Q x2 c → kL d pl x1 x2 x3 x4 c Q)
    (go : ∀ (d : Nat) (pl : Int) (b : Int → Int) (n K : Nat) (R : Int) (c : cs_S) (V : pV) (x1 x2 x3 x4 act : Int) (Q : Int → cs_S → Prop), CE c pl b n K R V → 5 ≤ d → op b n (vA V) act → kS d pl (c_u c 122 pl 0 ((vA V + 1 : Nat) : Int)) (fun v c2 => c_r c2 pl = 1003 ∧ kplan_between d pl act x2 v (vA V : Int) x1 c2 (fun v3 c3 => ∀ y3 y4, kL d pl x1 v3 y3 y4 c3 Q)) → kL d pl x1 x2 x3 x4 c Q)
    (zz : ∀ (d : Nat) (pl f p : Int) (c : cs_S) (x1 x2 x3 x4 : Int) (Q : Int → cs_S → Prop), CF c pl f p → 5 ≤ d → Q x2 c → kL d pl x1 x2 x3 x4 c Q)
    (mst : ∀ (d : Nat) (b : Int → Int) (n K : Nat) (R : Int) (si : Nat) (s : ms_S) (V : pV) (x1 x2 y3 y4 y5 : Int) (P : Int → ms_S → Prop), ME s b n K R si V → 5 ≤ d → (∀ act, ¬ op b n (vA V) act) → P x1 (ms_u s 74 0 x2) → mL d x1 x2 y3 y4 y5 s P)
    (mgo : ∀ (d : Nat) (b : Int → Int) (n K : Nat) (R : Int) (si : Nat) (s : ms_S) (V : pV) (x1 x2 y3 y4 y5 act : Int) (P : Int → ms_S → Prop), ME s b n K R si V → 5 ≤ d → op b n (vA V) act → mS d (ms_u s 18 0 ((vA V + 1 : Nat) : Int)) (fun v s2 => md_make d (mk_kind act 0) x1 v (-1) x2 (tk_p b n (vA V)) s2 (fun v2 s3 => ∀ y3 y4 y5, mL d v2 x2 y3 y4 y5 s3 P)) → mL d x1 x2 y3 y4 y5 s P)
    (mzz : ∀ (d : Nat) (f p : Int) (s : ms_S) (x1 x2 y3 y4 y5 : Int) (P : Int → ms_S → Prop), MF s f p → 5 ≤ d → P x1 (ms_u s 74 0 x2) → mL d x1 x2 y3 y4 y5 s P) : rX bg kX mX (B + 1) L := by
  intro pl b n K R c V D Q h hL hD kk
  obtain ⟨d, rfl⟩ : ∃ d', D = d' + 1 := ⟨D - 1, by omega⟩
  refine e1 d pl c Q h.r ?_
  rw [h.2.2.1.1]
  -- with a fault
  have fin : ∀ (c1 : cs_S) (f p : Int) (x2 y3 y4 : Int), CF c1 pl f p → c_sm (eW pl R) c c1 → (∀ (si : Nat) (s : ms_S) (D' : Nat) (P : Int → ms_S → Prop), ME s b n K R si V → B ≤ D' → (∀ (x1 x2 y3 y4 y5 : Int) (s1 : ms_S), MF s1 f p → eF si s s1 → mL D' x1 x2 y3 y4 y5 s1 P) → mX (D' + 1) s P) → kL d pl (vA V : Int) x2 y3 y4 c1 Q := by
    intro c1 f p x2 y3 y4 hc s1 hm
    refine zz d pl f p c1 _ _ _ _ Q hc (by omega) (kk _ _ s1 (Or.inr ⟨f, p, hc, fun si s D' P hME hD' hP => ?_⟩))
    obtain ⟨d', rfl⟩ : ∃ d', D' = d' + 1 := ⟨D' - 1, by omega⟩
    refine hm si s d' P hME (by omega) (fun x1 x2 y3 y4 y5 s1 hf he => mzz d' f p s1 _ _ _ _ _ P hf (by omega) (hP _ _ ?_ (he.tr (eF.u (by omega)))))
    exact hf.fr (fun q h1 h2 => ms_u_f _ _ _ (by omega))
  have loop : ∀ (r : Nat) (c1 : cs_S) (V1 : pV) (y3 y4 : Int), K - vA V1 = r → CE c1 pl b n K R V1 → c_sm (eW pl R) c c1 → (eX K V V1 ∧ bg b n (vA V) (vM V)) → (∀ (si : Nat) (s : ms_S) (D' : Nat) (P : Int → ms_S → Prop), ME s b n K R si V → B ≤ D' → (∀ (s1 : ms_S) (y3 y4 y5 : Int), ME s1 b n K R si V1 → eF si s s1 → mL D' ((vN V1 - 1 : Nat) : Int) (tk_p b n (vA V) : Int) y3 y4 y5 s1 P) → mX (D' + 1) s P) → kL d pl (vA V : Int) ((vN V1 - 1 : Nat) : Int) y3 y4 c1 Q := by
    intro r
    induction r using Nat.strongRecOn with
    | _ r ih =>
    intro c1 V1 y3 y4 hr h1 s1 hxb hm
    have hx := hxb.1
    by_cases hop : ∀ act, ¬ op b n (vA V1) act
    · refine st d pl b n K R c1 V1 _ _ _ _ Q h1 (by omega) hop (kk _ _ s1 (Or.inl ⟨V1, h1, hxb, rfl, fun si s D' P hME hD' hP => ?_⟩))
      obtain ⟨d', rfl⟩ : ∃ d', D' = d' + 1 := ⟨D' - 1, by omega⟩
      refine hm si s d' P hME (by omega) (fun s1 y3 y4 y5 hME1 he => mst d' b n K R si s1 V1 _ _ _ _ _ P hME1 (by omega) hop (hP _ hME1.sp (he.tr (eF.u (by omega))) (ms_u_eq _ _ _ _)))
    · obtain ⟨act, hact⟩ := Classical.not_forall_not.mp hop
      obtain ⟨ha, w, hw⟩ := opx hact
      have hlt : vA V1 < K := tk_is_lt h1.2.1.2.1 h1.le.1 hw
      have h2 := h1.at (k := vA V1 + 1) (by omega)
      have s2 : c_sm (eW pl R) c (c_u c1 122 pl 0 ((vA V1 + 1 : Nat) : Int)) := s1.tr (c_sm.u c1 (by unfold eW; omega) _ _)
      have hxd := hx.2.2.2.2.1
      refine go d pl b n K R c1 V1 _ _ _ _ act Q h1 (by omega) hact (hS pl b n K R _ _ d _ h2 (by show vD V1 + L = 12; omega) (by omega) (fun v c2 s3 hP => ?_))
      have s23 := s2.tr s3
      rcases hP with ⟨V2, g2, ⟨x2, -⟩, ev, mg⟩ | ⟨f, p, hf, mf⟩
      · refine ⟨g2.r, ?_⟩
        have hadd : vN V2 < 120 → ∀ z, eX K V (v_add V2 (act, ((vN V1 - 1 : Nat) : Int), v, -1, -1, z) (vA V1) (vA V)) := by
          intro hN z
          have xo2 := hx.ox2 x2
          obtain ⟨a1, a2, a3, a4, a5, a6, a7, a8, a9, -⟩ := hx
          obtain ⟨b1, b2, b3, b4, b5, b6, b7, b8, b9, -⟩ := x2
          have b1 : eY K (vN V1) (v_at V1 (vA V1 + 1)) V2 := b1
          have b2 : vA V1 + 1 < vA V2 := b2
          have b4 : vN V1 < vN V2 := b4
          have xe : x_up (vT V2) (vN V2) (act, ((vN V1 - 1 : Nat) : Int), v, -1, -1, z) (vN V2) = (act, ((vN V1 - 1 : Nat) : Int), v, -1, -1, z) := x_up_eq _ _ _
          have hp : x_p (x_up (vT V2) (vN V2) (act, ((vN V1 - 1 : Nat) : Int), v, -1, -1, z)) K (vN V) (vN V2) := by
            refine ⟨fun _ => Or.inr (Or.inr (Or.inl ⟨?_, ?_, ?_⟩)), ?_, fun q => ?_⟩
            · unfold x_act; rw [xe]; unfold x_two; show act = 4 ∨ _; omega
            · unfold x_a; rw [xe]; show _ ≤ ((vN V1 - 1 : Nat) : Int) ∧ ((vN V1 - 1 : Nat) : Int) < _; omega
            · unfold x_b; rw [xe]; show _ ≤ v ∧ v < _; omega
            · unfold x_act; rw [xe]; show act ≤ 29; omega
            · unfold x_act at q; rw [xe] at q; have q : 26 ≤ act := q; omega
          have y1 : eY K (vN V) V V2 := (a1.tr (eY.at V1 (by omega))).tr (b1.lw (by omega))
          refine ⟨y1.tr (eY.add hp (by omega) (by omega) (by show act < 25; omega)), by show vA V < vA V2; omega, b3, by show vN V < vN V2 + 1; omega, by show vD V2 = vD V; rw [b5]; exact a5, by show vS V2 = vS V; rw [b6]; exact a6, by show vM V2 = vM V; rw [b7]; exact a7, fun q => ?_, ?_, fun q => ?_, xo2.add (fun e he h1 h2 => ?_)⟩
          · show vG V2 = vG V
            rw [b8 (by show vM V1 = false; rw [a7]; exact q)]
            exact a8 q
          · show x_n (x_up (vT V2) (vN V2) (act, ((vN V1 - 1 : Nat) : Int), v, -1, -1, z)) (vN V2 + 1 - 1) = -1
            rw [Nat.add_sub_cancel]
            unfold x_n
            rw [xe]
          · exfalso
            have q : x_act (x_up (vT V2) (vN V2) (act, ((vN V1 - 1 : Nat) : Int), v, -1, -1, z)) (vN V2 + 1 - 1) = 3 := q
            rw [Nat.add_sub_cancel] at q
            unfold x_act at q
            rw [xe] at q
            have q : act = 3 := q
            omega
          · rcases he with he | he
            · exact x_kid_a ⟨by show 4 ≤ act; omega, by show act ≤ 24; omega⟩ (by show ((vN V1 - 1 : Nat) : Int) = _; omega)
            · exact x_kid_b ⟨by show 4 ≤ act; omega, by show act ≤ 24; omega, by show act ≠ 15; omega, by show act ≠ 16; omega⟩ (by show v = _; omega)
        have hbt := hx.2.1
        refine k_between g2 (by omega) (by omega) (fun hN c' z s4 g3 => fun y3 y4 => ?_) (fun hN => fun y3 y4 => ?_)
        · have hx3 := hadd hN z
          have eN : ((vN V2 : Nat) : Int) = ((vN (v_add V2 (act, ((vN V1 - 1 : Nat) : Int), v, -1, -1, z) (vA V1) (vA V)) - 1 : Nat) : Int) := rfl
          rw [eN]
          have b2 : vA V1 + 1 < vA V2 := x2.2.1
          have b3 := x2.2.2.1
          refine ih (K - vA V2) (by omega) c' _ _ _ rfl g3 (s23.tr s4) ⟨hx3, hxb.2⟩ (fun si s D' P hME hD' hP => ?_)
          refine hm si s D' P hME hD' (fun s1 y3 y4 y5 hME1 he => mgo D' b n K R si s1 V1 _ _ _ _ _ act P hME1 (by omega) hact ?_)
          refine mg si _ D' _ (hME1.at (by omega)) hD' (fun s5 hME5 he5 _ => ?_)
          refine hME5.make (by omega) hN (fun s6 fr6 h22 rw6 => fun y3 y4 y5 => ?_)
          obtain ⟨w1, w2, w3, w4, w5, w6, w7, w8, w9⟩ := rw6
          refine hP s6 _ _ _ (hME5.add hN fr6 h22 ⟨?_, fun q => ?_, fun q1 q2 => ?_, fun _ => ⟨w2, w3⟩, w4, w9, fun q => ?_, ?_, ?_⟩ w7) (he.tr ((eF.u (by omega)).tr (he5.tr fr6.eF)))
          · rw [w1]; exact (mk_kind_a (by show act ≠ 2; omega)).symm
          · have q : act = 0 := q; omega
          · have q1 : 7 ≤ act := q1; have q2 : act ≤ 16 := q2; omega
          · have q : act = 3 := q; omega
          · show (-1 : Int) ≤ -1; omega
          · show (-1 : Int) ≤ v; omega
        · refine fin _ 7 (tk_p b n (vA V1)) 0 y3 y4 (g2.cf (by omega)) (s23.tr c_fl_sm) (fun si s D' P hME hD' hP => ?_)
          refine hm si s D' P hME hD' (fun s1 y3 y4 y5 hME1 he => mgo D' b n K R si s1 V1 _ _ _ _ _ act P hME1 (by omega) hact ?_)
          refine mg si _ D' _ (hME1.at (by omega)) hD' (fun s5 hME5 he5 _ => ?_)
          exact hME5.full (by omega) hN (fun y3 y4 y5 => hP _ _ _ _ _ _ hME5.mf (he.tr ((eF.u (by omega)).tr (he5.tr eF.fl))))
      · refine ⟨hf.1, k_between0 hf (by omega) (fun y3 y4 => ?_)⟩
        refine fin _ f p 0 y3 y4 hf s23 (fun si s D' P hME hD' hP => ?_)
        refine hm si s D' P hME hD' (fun s1 y3 y4 y5 hME1 he => mgo D' b n K R si s1 V1 _ _ _ _ _ act P hME1 (by omega) hact ?_)
        refine mf si _ D' _ (hME1.at (by omega)) hD' (fun v' s5 hf5 he5 => ?_)
        exact hf5.make (by omega) (fun y3 y4 y5 => hP _ _ _ _ _ _ hf5 (he.tr ((eF.u (by omega)).tr he5)))
  refine hS pl b n K R c V d _ h hL (by omega) (fun v c1 s1 hP => fun y3 y4 => ?_)
  rcases hP with ⟨V1, h1, hx, ev, mg⟩ | ⟨f, p, hf, mf⟩
  · rw [ev]
    refine loop (K - vA V1) c1 V1 y3 y4 rfl h1 s1 hx (fun si s D' P hME hD' hP => ?_)
    refine e2 D' s P (mg si s D' _ hME hD' (fun s' hME' he hsp => fun y3 y4 y5 => ?_))
    rw [hsp, ev]
    exact hP s' _ _ _ hME' he
  · refine fin c1 f p v y3 y4 hf s1 (fun si s D' P hME hD' hP => ?_)
    exact e2 D' s P (mf si s D' _ hME hD' (fun v' s' hf' he => fun y3 y4 y5 => hP _ _ _ _ _ _ hf' he))
end
