set_option maxRecDepth 100000
/-! a SELECT's record grows: the model -/
section
variable {s : ms_S} {b : Int → Int} {n K i k0 : Nat} {U : tV} {r : vSel} {v : Int}
theorem SM.sel (h : SM s b n K U i r k0) : mSel s b n i r := h.2.2.2.1
theorem SM.bd (h : SM s b n K U i r k0) : s_bd r := h.2.2.1.2.2
theorem SM.me (h : SM s b n K U i r k0) : ME s b n K 0 i (wV U) := h.1
theorem m_src_f {o : Int} {x : vSrc} {q : Nat} {a v : Int} (h : m_src s b n o x) (hq : q < 49 ∨ 58 < q) : m_src (ms_u s q a v) b n o x := by
  unfold m_src at h ⊢
  cases hx : o_q x with
  | some y =>
    rw [hx] at h
    simp only at h ⊢
    rw [ms_u_f _ _ _ (by omega), ms_u_f _ _ _ (by omega), ms_u_f _ _ _ (by omega), ms_u_f _ _ _ (by omega), ms_u_f _ _ _ (by omega), ms_u_f _ _ _ (by omega), ms_u_f _ _ _ (by omega)]
    exact h
  | none =>
    rw [hx] at h
    simp only at h ⊢
    rw [ms_u_f _ _ _ (by omega), ms_u_f _ _ _ (by omega), ms_u_f _ _ _ (by omega), ms_u_f _ _ _ (by omega), ms_u_f _ _ _ (by omega), ms_u_f _ _ _ (by omega), ms_u_f _ _ _ (by omega), ms_u_f _ _ _ (by omega)]
    exact h
theorem ms_u_n {q q' : Nat} {x y v : Int} (h : y ≠ x) : ms_u s q x v q' y = s q' y := if_neg (fun w => h w.2)
theorem m_src_j {o : Int} {x : vSrc} {q : Nat} {a v : Int} (h : m_src s b n o x) (hj : o ≠ a) : m_src (ms_u s q a v) b n o x := by
  unfold m_src at h ⊢
  cases hx : o_q x with
  | some y =>
    rw [hx] at h
    simp only at h ⊢
    rw [ms_u_n hj, ms_u_n hj, ms_u_n hj, ms_u_n hj, ms_u_n hj, ms_u_n hj, ms_u_n hj]
    exact h
  | none =>
    rw [hx] at h
    simp only at h ⊢
    rw [ms_u_n hj, ms_u_n hj, ms_u_n hj, ms_u_n hj, ms_u_n hj, ms_u_n hj, ms_u_n hj, ms_u_n hj]
    exact h
/-- one place of its block -/
theorem SM.w1 {r' : vSel} {q : Nat} {x : Int} (h : SM s b n K U i r k0) (hq : sBk i q x ∧ q ≠ 42 ∧ q ≠ 43) (hs : mSel (ms_u s q x v) b n i r') (hb : s_bd r') : SM (ms_u s q x v) b n K U i r' k0 := by
  refine h.wr (fun q' j hw => ?_) hs hb
  unfold ms_u
  rw [if_neg]
  rintro ⟨rfl, rfl⟩
  exact hw hq
theorem SM.dis {d : Int} (h : SM s b n K U i r k0) (hv : v = m_pl b n d) : SM (ms_u s 35 i v) b n K U i (r_dis r d) k0 := by
  obtain ⟨h1, ⟨a1, a2⟩, ⟨b1, b2⟩, h4, h5, ⟨d1, d2⟩, h7⟩ := h.sel
  refine h.w1 ⟨Or.inl ⟨by omega, rfl⟩, by omega, by omega⟩ ⟨by rw [ms_u_eq]; exact hv, ⟨by rw [ms_u_f _ _ _ (by omega)]; exact a1, fun k x hx => by rw [ms_u_f _ _ _ (by omega), ms_u_f _ _ _ (by omega)]; exact a2 k x hx⟩, ⟨by rw [ms_u_f _ _ _ (by omega)]; exact b1, fun k x hx => m_src_f (b2 k x hx) (by omega)⟩, by rw [ms_u_f _ _ _ (by omega)]; exact h4, by rw [ms_u_f _ _ _ (by omega)]; exact h5, ⟨by rw [ms_u_f _ _ _ (by omega)]; exact d1, fun k x hx => by rw [ms_u_f _ _ _ (by omega), ms_u_f _ _ _ (by omega)]; exact d2 k x hx⟩, by rw [ms_u_f _ _ _ (by omega)]; exact h7⟩ h.bd
theorem SM.whr (h : SM s b n K U i r k0) : SM (ms_u s 38 i v) b n K U i (r_whr r v) k0 := by
  obtain ⟨h1, ⟨a1, a2⟩, ⟨b1, b2⟩, h4, h5, ⟨d1, d2⟩, h7⟩ := h.sel
  refine h.w1 ⟨Or.inl ⟨by omega, rfl⟩, by omega, by omega⟩ ⟨by rw [ms_u_f _ _ _ (by omega)]; exact h1, ⟨by rw [ms_u_f _ _ _ (by omega)]; exact a1, fun k x hx => by rw [ms_u_f _ _ _ (by omega), ms_u_f _ _ _ (by omega)]; exact a2 k x hx⟩, ⟨by rw [ms_u_f _ _ _ (by omega)]; exact b1, fun k x hx => m_src_f (b2 k x hx) (by omega)⟩, by rw [ms_u_eq]; rfl, by rw [ms_u_f _ _ _ (by omega)]; exact h5, ⟨by rw [ms_u_f _ _ _ (by omega)]; exact d1, fun k x hx => by rw [ms_u_f _ _ _ (by omega), ms_u_f _ _ _ (by omega)]; exact d2 k x hx⟩, by rw [ms_u_f _ _ _ (by omega)]; exact h7⟩ h.bd
theorem SM.grp {d : Int} (h : SM s b n K U i r k0) (hv : v = m_pl b n d) : SM (ms_u s 40 i v) b n K U i (r_grp r d) k0 := by
  obtain ⟨h1, ⟨a1, a2⟩, ⟨b1, b2⟩, h4, h5, ⟨d1, d2⟩, h7⟩ := h.sel
  refine h.w1 ⟨Or.inl ⟨by omega, rfl⟩, by omega, by omega⟩ ⟨by rw [ms_u_f _ _ _ (by omega)]; exact h1, ⟨by rw [ms_u_f _ _ _ (by omega)]; exact a1, fun k x hx => by rw [ms_u_f _ _ _ (by omega), ms_u_f _ _ _ (by omega)]; exact a2 k x hx⟩, ⟨by rw [ms_u_f _ _ _ (by omega)]; exact b1, fun k x hx => m_src_f (b2 k x hx) (by omega)⟩, by rw [ms_u_f _ _ _ (by omega)]; exact h4, by rw [ms_u_eq]; exact hv, ⟨by rw [ms_u_f _ _ _ (by omega)]; exact d1, fun k x hx => by rw [ms_u_f _ _ _ (by omega), ms_u_f _ _ _ (by omega)]; exact d2 k x hx⟩, by rw [ms_u_f _ _ _ (by omega)]; exact h7⟩ h.bd
theorem SM.hav (h : SM s b n K U i r k0) : SM (ms_u s 41 i v) b n K U i (r_hav r v) k0 := by
  obtain ⟨h1, ⟨a1, a2⟩, ⟨b1, b2⟩, h4, h5, ⟨d1, d2⟩, h7⟩ := h.sel
  refine h.w1 ⟨Or.inl ⟨by omega, rfl⟩, by omega, by omega⟩ ⟨by rw [ms_u_f _ _ _ (by omega)]; exact h1, ⟨by rw [ms_u_f _ _ _ (by omega)]; exact a1, fun k x hx => by rw [ms_u_f _ _ _ (by omega), ms_u_f _ _ _ (by omega)]; exact a2 k x hx⟩, ⟨by rw [ms_u_f _ _ _ (by omega)]; exact b1, fun k x hx => m_src_f (b2 k x hx) (by omega)⟩, by rw [ms_u_f _ _ _ (by omega)]; exact h4, by rw [ms_u_f _ _ _ (by omega)]; exact h5, ⟨by rw [ms_u_f _ _ _ (by omega)]; exact d1, fun k x hx => by rw [ms_u_f _ _ _ (by omega), ms_u_f _ _ _ (by omega)]; exact d2 k x hx⟩, by rw [ms_u_eq]; rfl⟩ h.bd
theorem SM.itm {x : Nat} {nm : Int} (h : SM s b n K U i r k0) (hl : (s_its r).length < 8) : SM (ms_u (ms_u (ms_u s 44 ((8 * i + (s_its r).length : Nat) : Int) x) 45 ((8 * i + (s_its r).length : Nat) : Int) nm) 36 i (((s_its r).length + 1 : Nat) : Int)) b n K U i (r_itm r (x, nm)) k0 := by
  obtain ⟨h1, ⟨a1, a2⟩, ⟨b1, b2⟩, h4, h5, ⟨d1, d2⟩, h7⟩ := h.sel
  refine h.wr (fun q j hw => ?_) ⟨?_, ⟨?_, fun k y hx => ?_⟩, ⟨?_, fun k x hx => m_src_f (m_src_f (m_src_f (b2 k x hx) (by omega)) (by omega)) (by omega)⟩, ?_, ?_, ⟨?_, fun k x hx => ?_⟩, ?_⟩ ⟨?_, h.bd.2.1, h.bd.2.2⟩
  · have n1 : ¬ (q = 36 ∧ j = (i : Int)) := fun w => hw ⟨Or.inl ⟨by omega, w.2⟩, by omega, by omega⟩
    have n2 : ¬ ((q = 44 ∨ q = 45) ∧ j = ((8 * i + (s_its r).length : Nat) : Int)) := fun w => hw ⟨Or.inr (Or.inl ⟨by omega, by omega, by omega⟩), by omega, by omega⟩
    unfold ms_u
    rw [if_neg n1, if_neg (by omega), if_neg (by omega)]
  · rw [ms_u_f _ _ _ (by omega), ms_u_f _ _ _ (by omega), ms_u_f _ _ _ (by omega)]; exact h1
  · rw [ms_u_eq]; show _ = ((s_its r ++ [(x, nm)]).length : Int); rw [List.length_append]; rfl
  · rcases getElem?_snoc hx with ⟨q1, q2⟩ | ⟨q1, q2⟩
    · rw [ms_u_f _ _ _ (by omega), ms_u_f _ _ _ (by omega), ms_u_i _ (by omega), ms_u_f _ _ _ (by omega), ms_u_i _ (by omega), ms_u_f _ _ _ (by omega)]; exact a2 k y q1
    · rw [q1, q2, ms_u_f _ _ _ (by omega), ms_u_f _ _ _ (by omega), ms_u_eq, ms_u_f _ _ _ (by omega), ms_u_eq]; exact ⟨rfl, rfl⟩
  · rw [ms_u_f _ _ _ (by omega), ms_u_f _ _ _ (by omega), ms_u_f _ _ _ (by omega)]; exact b1
  · rw [ms_u_f _ _ _ (by omega), ms_u_f _ _ _ (by omega), ms_u_f _ _ _ (by omega)]; exact h4
  · rw [ms_u_f _ _ _ (by omega), ms_u_f _ _ _ (by omega), ms_u_f _ _ _ (by omega)]; exact h5
  · rw [ms_u_f _ _ _ (by omega), ms_u_f _ _ _ (by omega), ms_u_f _ _ _ (by omega)]; exact d1
  · rw [ms_u_f _ _ _ (by omega), ms_u_f _ _ _ (by omega), ms_u_f _ _ _ (by omega), ms_u_f _ _ _ (by omega), ms_u_f _ _ _ (by omega), ms_u_f _ _ _ (by omega)]; exact d2 k x hx
  · rw [ms_u_f _ _ _ (by omega), ms_u_f _ _ _ (by omega), ms_u_f _ _ _ (by omega)]; exact h7
  · show (s_its r ++ [(x, nm)]).length ≤ 8; rw [List.length_append]; show _ + 1 ≤ 8; omega
theorem SM.grs {x nm : Nat} (h : SM s b n K U i r k0) (hl : (s_grs r).length < 8) : SM (ms_u (ms_u (ms_u s 47 ((8 * i + (s_grs r).length : Nat) : Int) x) 48 ((8 * i + (s_grs r).length : Nat) : Int) nm) 39 i (((s_grs r).length + 1 : Nat) : Int)) b n K U i (r_grs r (x, nm)) k0 := by
  obtain ⟨h1, ⟨a1, a2⟩, ⟨b1, b2⟩, h4, h5, ⟨d1, d2⟩, h7⟩ := h.sel
  refine h.wr (fun q j hw => ?_) ⟨?_, ⟨?_, fun k y hx => ?_⟩, ⟨?_, fun k x hx => m_src_f (m_src_f (m_src_f (b2 k x hx) (by omega)) (by omega)) (by omega)⟩, ?_, ?_, ⟨?_, fun k y hx => ?_⟩, ?_⟩ ⟨h.bd.1, h.bd.2.1, ?_⟩
  · have n1 : ¬ (q = 39 ∧ j = (i : Int)) := fun w => hw ⟨Or.inl ⟨by omega, w.2⟩, by omega, by omega⟩
    have n2 : ¬ ((q = 47 ∨ q = 48) ∧ j = ((8 * i + (s_grs r).length : Nat) : Int)) := fun w => hw ⟨Or.inr (Or.inl ⟨by omega, by omega, by omega⟩), by omega, by omega⟩
    unfold ms_u
    rw [if_neg n1, if_neg (by omega), if_neg (by omega)]
  · rw [ms_u_f _ _ _ (by omega), ms_u_f _ _ _ (by omega), ms_u_f _ _ _ (by omega)]; exact h1
  · rw [ms_u_f _ _ _ (by omega), ms_u_f _ _ _ (by omega), ms_u_f _ _ _ (by omega)]; exact a1
  · rw [ms_u_f _ _ _ (by omega), ms_u_f _ _ _ (by omega), ms_u_f _ _ _ (by omega), ms_u_f _ _ _ (by omega), ms_u_f _ _ _ (by omega), ms_u_f _ _ _ (by omega)]; exact a2 k y hx
  · rw [ms_u_f _ _ _ (by omega), ms_u_f _ _ _ (by omega), ms_u_f _ _ _ (by omega)]; exact b1
  · rw [ms_u_f _ _ _ (by omega), ms_u_f _ _ _ (by omega), ms_u_f _ _ _ (by omega)]; exact h4
  · rw [ms_u_f _ _ _ (by omega), ms_u_f _ _ _ (by omega), ms_u_f _ _ _ (by omega)]; exact h5
  · rw [ms_u_eq]; show _ = ((s_grs r ++ [(x, nm)]).length : Int); rw [List.length_append]; rfl
  · rcases getElem?_snoc hx with ⟨q1, q2⟩ | ⟨q1, q2⟩
    · rw [ms_u_f _ _ _ (by omega), ms_u_f _ _ _ (by omega), ms_u_i _ (by omega), ms_u_f _ _ _ (by omega), ms_u_i _ (by omega), ms_u_f _ _ _ (by omega)]; exact d2 k y q1
    · rw [q1, q2, ms_u_f _ _ _ (by omega), ms_u_f _ _ _ (by omega), ms_u_eq, ms_u_f _ _ _ (by omega), ms_u_eq]; exact ⟨rfl, rfl⟩
  · rw [ms_u_f _ _ _ (by omega), ms_u_f _ _ _ (by omega), ms_u_f _ _ _ (by omega)]; exact h7
  · show (s_grs r ++ [(x, nm)]).length ≤ 8; rw [List.length_append]; show _ + 1 ≤ 8; omega
/-- beyond the last SOURCE -/
theorem SM.s1 {q : Nat} (h : SM s b n K U i r k0) (hl : (s_src r).length < 3) (hq : 49 ≤ q ∧ q ≤ 58) : SM (ms_u s q ((3 * i + (s_src r).length : Nat) : Int) v) b n K U i r k0 := by
  obtain ⟨h1, ⟨a1, a2⟩, ⟨b1, b2⟩, h4, h5, ⟨d1, d2⟩, h7⟩ := h.sel
  refine h.w1 ⟨Or.inr (Or.inr ⟨by omega, by omega, by omega⟩), by omega, by omega⟩ ⟨by rw [ms_u_f _ _ _ (by omega)]; exact h1, ⟨by rw [ms_u_f _ _ _ (by omega)]; exact a1, fun k x hx => by rw [ms_u_f _ _ _ (by omega), ms_u_f _ _ _ (by omega)]; exact a2 k x hx⟩, ⟨by rw [ms_u_f _ _ _ (by omega)]; exact b1, fun k x hx => m_src_j (b2 k x hx) (by have := (List.getElem?_eq_some_iff.mp hx).1; omega)⟩, by rw [ms_u_f _ _ _ (by omega)]; exact h4, by rw [ms_u_f _ _ _ (by omega)]; exact h5, ⟨by rw [ms_u_f _ _ _ (by omega)]; exact d1, fun k x hx => by rw [ms_u_f _ _ _ (by omega), ms_u_f _ _ _ (by omega)]; exact d2 k x hx⟩, by rw [ms_u_f _ _ _ (by omega)]; exact h7⟩ h.bd
theorem SM.src {x : vSrc} (h : SM s b n K U i r k0) (hl : (s_src r).length < 3) (hm : m_src s b n ((3 * i + (s_src r).length : Nat) : Int) x) : SM (ms_u s 37 i (((s_src r).length + 1 : Nat) : Int)) b n K U i (r_src r x) k0 := by
  obtain ⟨h1, ⟨a1, a2⟩, ⟨b1, b2⟩, h4, h5, ⟨d1, d2⟩, h7⟩ := h.sel
  refine h.w1 ⟨Or.inl ⟨by omega, rfl⟩, by omega, by omega⟩ ⟨by rw [ms_u_f _ _ _ (by omega)]; exact h1, ⟨by rw [ms_u_f _ _ _ (by omega)]; exact a1, fun k x hx => by rw [ms_u_f _ _ _ (by omega), ms_u_f _ _ _ (by omega)]; exact a2 k x hx⟩, ⟨?_, fun k y hx => m_src_f ?_ (by omega)⟩, by rw [ms_u_f _ _ _ (by omega)]; exact h4, by rw [ms_u_f _ _ _ (by omega)]; exact h5, ⟨by rw [ms_u_f _ _ _ (by omega)]; exact d1, fun k x hx => by rw [ms_u_f _ _ _ (by omega), ms_u_f _ _ _ (by omega)]; exact d2 k x hx⟩, by rw [ms_u_f _ _ _ (by omega)]; exact h7⟩ ⟨h.bd.1, ?_, h.bd.2.2⟩
  · rw [ms_u_eq]; show _ = ((s_src r ++ [x]).length : Int); rw [List.length_append]; rfl
  · rcases getElem?_snoc hx with ⟨q1, q2⟩ | ⟨q1, q2⟩
    · exact b2 k y q1
    · rw [q1, q2]; exact hm
  · show (s_src r ++ [x]).length ≤ 3; rw [List.length_append]; show _ + 1 ≤ 3; omega
theorem SM.on {x : vSrc} {e : Nat} (h : SM s b n K U i (r_src r x) k0) : SM (ms_u s 58 ((3 * i + (s_src r).length : Nat) : Int) e) b n K U i (r_src r (o_set x e)) k0 := by
  obtain ⟨h1, ⟨a1, a2⟩, ⟨b1, b2⟩, h4, h5, ⟨d1, d2⟩, h7⟩ := h.sel
  have ln : (s_src (r_src r (o_set x e))).length = (s_src (r_src r x)).length := by show (s_src r ++ [_]).length = (s_src r ++ [_]).length; rw [List.length_append, List.length_append]; rfl
  have l3 : (s_src r).length + 1 ≤ 3 := by have := h.bd.2.1; have e : (s_src (r_src r x)).length = (s_src r).length + 1 := by show (s_src r ++ [_]).length = _; rw [List.length_append]; rfl
                                           omega
  refine h.w1 ⟨Or.inr (Or.inr ⟨by omega, by omega, by omega⟩), by omega, by omega⟩ ⟨by rw [ms_u_f _ _ _ (by omega)]; exact h1, ⟨by rw [ms_u_f _ _ _ (by omega)]; exact a1, fun k x hx => by rw [ms_u_f _ _ _ (by omega), ms_u_f _ _ _ (by omega)]; exact a2 k x hx⟩, ⟨by rw [ms_u_f _ _ _ (by omega), ln]; exact b1, fun k y hx => ?_⟩, by rw [ms_u_f _ _ _ (by omega)]; exact h4, by rw [ms_u_f _ _ _ (by omega)]; exact h5, ⟨by rw [ms_u_f _ _ _ (by omega)]; exact d1, fun k x hx => by rw [ms_u_f _ _ _ (by omega), ms_u_f _ _ _ (by omega)]; exact d2 k x hx⟩, by rw [ms_u_f _ _ _ (by omega)]; exact h7⟩ ⟨h.bd.1, by rw [ln]; exact h.bd.2.1, h.bd.2.2⟩
  rcases getElem?_snoc hx with ⟨q1, q2⟩ | ⟨q1, q2⟩
  · exact m_src_j (b2 k y (by show (s_src r ++ [x])[k]? = _; rw [List.getElem?_append_left q2]; exact q1)) (by omega)
  · rw [q1, q2]
    have := b2 (s_src r).length x (by show (s_src r ++ [x])[_]? = _; simp)
    unfold m_src at this ⊢
    show (match o_q x with | some q => _ | none => _) ∧ _
    cases hx : o_q x with
    | some q =>
      rw [hx] at this
      simp only at this ⊢
      rw [ms_u_f _ _ _ (by omega), ms_u_f _ _ _ (by omega), ms_u_f _ _ _ (by omega), ms_u_f _ _ _ (by omega), ms_u_f _ _ _ (by omega), ms_u_f _ _ _ (by omega)]
      exact ⟨this.1, this.2.1, this.2.2.1, this.2.2.2.1, fun _ => by rw [ms_u_eq]; rfl⟩
    | none =>
      rw [hx] at this
      simp only at this ⊢
      rw [ms_u_f _ _ _ (by omega), ms_u_f _ _ _ (by omega), ms_u_f _ _ _ (by omega), ms_u_f _ _ _ (by omega), ms_u_f _ _ _ (by omega), ms_u_f _ _ _ (by omega), ms_u_f _ _ _ (by omega)]
      exact ⟨this.1, this.2.1, this.2.2.1, this.2.2.2.1, fun _ => by rw [ms_u_eq]; rfl⟩
end
