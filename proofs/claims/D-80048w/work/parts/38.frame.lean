set_option maxRecDepth 100000
/-! a run on a part of the heap is a run on all of it -/
def lm_sub (F : Int → Prop) (hs hb : lm_H) : Prop := h_n hb = h_n hs ∧ h_m hb = h_m hs ∧ (∀ a, ¬ F a → h_l hb a = h_l hs a ∧ ∀ i, h_v hb a i = h_v hs a i) ∧ ∀ a, F a → h_l hs a < 0 ∧ a < h_n hs
def lm_rest (F : Int → Prop) (hb hb' : lm_H) : Prop := ∀ a, F a → h_l hb' a = h_l hb a ∧ ∀ i, h_v hb' a i = h_v hb a i
section
variable {F : Int → Prop} {hs hb hs' hb' : lm_H}
theorem lm_rest.rf (h : lm_H) : lm_rest F h h := fun _ _ => ⟨rfl, fun _ => rfl⟩
theorem lm_rest.tr {a b c : lm_H} (h1 : lm_rest F a b) (h2 : lm_rest F b c) : lm_rest F a c := fun x hx => ⟨(h2 x hx).1.trans (h1 x hx).1, fun i => ((h2 x hx).2 i).trans ((h1 x hx).2 i)⟩
theorem lm_sub.nf (S : lm_sub F hs hb) {a : Int} (h : 0 ≤ h_l hs a) : ¬ F a := fun w => by have := (S.2.2.2 a w).1; omega
theorem lm_sub.l (S : lm_sub F hs hb) {a : Int} (h : 0 ≤ h_l hs a) : h_l hb a = h_l hs a := (S.2.2.1 a (S.nf h)).1
theorem lm_sub.v (S : lm_sub F hs hb) {a : Int} (h : 0 ≤ h_l hs a) (i : Int) : h_v hb a i = h_v hs a i := (S.2.2.1 a (S.nf h)).2 i
theorem lm_sub.set (S : lm_sub F hs hb) {a : Int} (h : 0 ≤ h_l hs a) (i v : Int) : lm_sub F (h_s hs a i v) (h_s hb a i v) ∧ lm_rest F hb (h_s hb a i v) := by
  refine ⟨⟨S.1, S.2.1, fun b hb0 => ⟨(S.2.2.1 b hb0).1, fun j => ?_⟩, S.2.2.2⟩, fun b hF => ⟨rfl, fun j => ?_⟩⟩
  · show (if b = a ∧ j = i then v else h_v hb b j) = if b = a ∧ j = i then v else h_v hs b j
    rw [(S.2.2.1 b hb0).2 j]
  · show (if b = a ∧ j = i then v else h_v hb b j) = h_v hb b j
    exact if_neg (fun (w : b = a ∧ j = i) => S.nf h (w.1 ▸ hF))
theorem lm_sub.cpy (S : lm_sub F hs hb) {s t : Int} (h : 0 ≤ h_l hs t) (h0 : 0 ≤ h_l hs s) (sp dp n : Int) : lm_sub F (h_c hs s sp t dp n) (h_c hb s sp t dp n) ∧ lm_rest F hb (h_c hb s sp t dp n) := by
  refine ⟨⟨S.1, S.2.1, fun b hb0 => ⟨(S.2.2.1 b hb0).1, fun j => ?_⟩, S.2.2.2⟩, fun b hF => ⟨rfl, fun j => ?_⟩⟩
  · show (if b = t ∧ dp ≤ j ∧ j < dp + n then h_v hb s (sp + (j - dp)) else h_v hb b j) = if b = t ∧ dp ≤ j ∧ j < dp + n then h_v hs s (sp + (j - dp)) else h_v hs b j
    rw [(S.2.2.1 b hb0).2 j, S.v h0]
  · show (if b = t ∧ dp ≤ j ∧ j < dp + n then h_v hb s (sp + (j - dp)) else h_v hb b j) = h_v hb b j
    exact if_neg (fun (w : b = t ∧ dp ≤ j ∧ j < dp + n) => S.nf h (w.1 ▸ hF))
theorem lm_sub.new (S : lm_sub F hs hb) (l : Int) (z : Int → Int) : lm_sub F (h_w hs l z) (h_w hb l z) ∧ lm_rest F hb (h_w hb l z) := by
  have e1 : hb.1 = hs.1 := S.1
  have e2 : hb.2.1 = hs.2.1 := S.2.1
  refine ⟨⟨?_, ?_, fun b hb0 => ⟨?_, fun j => ?_⟩, fun b hF => ⟨?_, ?_⟩⟩, fun b hF => ⟨?_, fun j => ?_⟩⟩
  · show hb.1 + 1 = hs.1 + 1; rw [e1]
  · show hb.2.1 + l = hs.2.1 + l; rw [e2]
  · show (if b = hb.1 then l else h_l hb b) = if b = hs.1 then l else h_l hs b
    rw [e1, (S.2.2.1 b hb0).1]
  · show (if b = hb.1 then z j else h_v hb b j) = if b = hs.1 then z j else h_v hs b j
    rw [e1, (S.2.2.1 b hb0).2 j]
  · show (if b = hs.1 then l else h_l hs b) < 0
    have := (S.2.2.2 b hF).2
    rw [if_neg (by intro w; unfold h_n at this; omega)]
    exact (S.2.2.2 b hF).1
  · show b < hs.1 + 1
    have := (S.2.2.2 b hF).2
    unfold h_n at this
    omega
  · show (if b = hb.1 then l else h_l hb b) = h_l hb b
    have := (S.2.2.2 b hF).2
    exact if_neg (by intro w; unfold h_n at this; omega)
  · show (if b = hb.1 then z j else h_v hb b j) = h_v hb b j
    have := (S.2.2.2 b hF).2
    exact if_neg (by intro w; unfold h_n at this; omega)
theorem lm_st_frame {i : Instr} {r ls st ls' st' : List Int} (S : lm_sub F hs hb) (E : lm_st i r ls st hs = some (ls', st', hs')) : ∃ hb', lm_st i r ls st hb = some (ls', st', hb') ∧ lm_sub F hs' hb' ∧ lm_rest F hb hb' := by
  unfold lm_st at E ⊢
  cases i
  case getfield x =>
    dsimp only at E ⊢
    split at E
    · split at E
      · rename_i h0
        cases E
        rw [if_pos (by rw [S.l h0]; exact h0), S.v h0]
        exact ⟨hb, rfl, S, lm_rest.rf _⟩
      · cases E
    · cases E
  case putfield x =>
    dsimp only at E ⊢
    split at E
    · split at E
      · rename_i h0
        cases E
        rw [if_pos (by rw [S.l h0]; exact h0)]
        exact ⟨_, rfl, S.set h0 _ _⟩
      · cases E
    · cases E
  case arraylength =>
    dsimp only at E ⊢
    split at E
    · split at E
      · rename_i h0
        cases E
        rw [if_pos (by rw [S.l h0]; exact h0), S.l h0]
        exact ⟨hb, rfl, S, lm_rest.rf _⟩
      · cases E
    · cases E
  case newarray x =>
    dsimp only at E ⊢
    split at E
    · split at E
      · rename_i h0
        cases E
        rw [if_pos h0, S.1]
        exact ⟨_, rfl, S.new _ _⟩
      · cases E
    · cases E
  case anewarray x =>
    dsimp only at E ⊢
    split at E
    · split at E
      · rename_i h0
        cases E
        rw [if_pos h0, S.1]
        exact ⟨_, rfl, S.new _ _⟩
      · cases E
    · cases E
  case new x =>
    dsimp only at E ⊢
    split at E
    · cases E
      rw [S.1]
      exact ⟨_, rfl, S.new _ _⟩
    · cases E
  case iaload =>
    dsimp only at E ⊢
    simp only [Option.map_eq_some_iff, Prod.mk.injEq] at E
    obtain ⟨q, E, rfl, rfl, rfl⟩ := E
    unfold lm_ald at E ⊢
    split at E
    · split at E
      · rename_i h0
        cases E
        have hh : 0 ≤ h_l hs _ := Int.le_trans h0.1 (Int.le_of_lt h0.2)
        rw [if_pos (by rw [S.l hh]; exact h0), S.v hh]
        exact ⟨hb, rfl, S, lm_rest.rf _⟩
      · cases E
    · cases E
  case baload =>
    dsimp only at E ⊢
    simp only [Option.map_eq_some_iff, Prod.mk.injEq] at E
    obtain ⟨q, E, rfl, rfl, rfl⟩ := E
    unfold lm_ald at E ⊢
    split at E
    · split at E
      · rename_i h0
        cases E
        have hh : 0 ≤ h_l hs _ := Int.le_trans h0.1 (Int.le_of_lt h0.2)
        rw [if_pos (by rw [S.l hh]; exact h0), S.v hh]
        exact ⟨hb, rfl, S, lm_rest.rf _⟩
      · cases E
    · cases E
  case laload =>
    dsimp only at E ⊢
    simp only [Option.map_eq_some_iff, Prod.mk.injEq] at E
    obtain ⟨q, E, rfl, rfl, rfl⟩ := E
    unfold lm_ald at E ⊢
    split at E
    · split at E
      · rename_i h0
        cases E
        have hh : 0 ≤ h_l hs _ := Int.le_trans h0.1 (Int.le_of_lt h0.2)
        rw [if_pos (by rw [S.l hh]; exact h0), S.v hh]
        exact ⟨hb, rfl, S, lm_rest.rf _⟩
      · cases E
    · cases E
  case aaload =>
    dsimp only at E ⊢
    simp only [Option.map_eq_some_iff, Prod.mk.injEq] at E
    obtain ⟨q, E, rfl, rfl, rfl⟩ := E
    unfold lm_ald at E ⊢
    split at E
    · split at E
      · rename_i h0
        cases E
        have hh : 0 ≤ h_l hs _ := Int.le_trans h0.1 (Int.le_of_lt h0.2)
        rw [if_pos (by rw [S.l hh]; exact h0), S.v hh]
        exact ⟨hb, rfl, S, lm_rest.rf _⟩
      · cases E
    · cases E
  case iastore =>
    dsimp only at E ⊢
    simp only [Option.map_eq_some_iff, Prod.mk.injEq] at E
    obtain ⟨q, E, rfl, rfl, rfl⟩ := E
    unfold lm_ast at E ⊢
    split at E
    · split at E
      · rename_i h0
        cases E
        have hh : 0 ≤ h_l hs _ := Int.le_trans h0.1 (Int.le_of_lt h0.2)
        rw [if_pos (by rw [S.l hh]; exact h0)]
        exact ⟨_, rfl, S.set hh _ _⟩
      · cases E
    · cases E
  case bastore =>
    dsimp only at E ⊢
    simp only [Option.map_eq_some_iff, Prod.mk.injEq] at E
    obtain ⟨q, E, rfl, rfl, rfl⟩ := E
    unfold lm_ast at E ⊢
    split at E
    · split at E
      · rename_i h0
        cases E
        have hh : 0 ≤ h_l hs _ := Int.le_trans h0.1 (Int.le_of_lt h0.2)
        rw [if_pos (by rw [S.l hh]; exact h0)]
        exact ⟨_, rfl, S.set hh _ _⟩
      · cases E
    · cases E
  case lastore =>
    dsimp only at E ⊢
    simp only [Option.map_eq_some_iff, Prod.mk.injEq] at E
    obtain ⟨q, E, rfl, rfl, rfl⟩ := E
    unfold lm_ast at E ⊢
    split at E
    · split at E
      · rename_i h0
        cases E
        have hh : 0 ≤ h_l hs _ := Int.le_trans h0.1 (Int.le_of_lt h0.2)
        rw [if_pos (by rw [S.l hh]; exact h0)]
        exact ⟨_, rfl, S.set hh _ _⟩
      · cases E
    · cases E
  case aastore =>
    dsimp only at E ⊢
    simp only [Option.map_eq_some_iff, Prod.mk.injEq] at E
    obtain ⟨q, E, rfl, rfl, rfl⟩ := E
    unfold lm_ast at E ⊢
    split at E
    · split at E
      · rename_i h0
        cases E
        have hh : 0 ≤ h_l hs _ := Int.le_trans h0.1 (Int.le_of_lt h0.2)
        rw [if_pos (by rw [S.l hh]; exact h0)]
        exact ⟨_, rfl, S.set hh _ _⟩
      · cases E
    · cases E
  all_goals dsimp only at E ⊢
  all_goals first
    | (cases E; done)
    | (cases E; exact ⟨hb, rfl, S, lm_rest.rf _⟩)
    | (simp only [Option.map_eq_some_iff, Prod.mk.injEq] at E
       obtain ⟨q, E, rfl, rfl, rfl⟩ := E
       rw [E]
       exact ⟨hb, rfl, S, lm_rest.rf _⟩)
    | (split at E
       · cases E
         exact ⟨hb, rfl, S, lm_rest.rf _⟩
       · cases E)
    | (split at E
       · cases E
         exact ⟨hb, rfl, S, lm_rest.rf _⟩
       · cases E
         exact ⟨hb, rfl, S, lm_rest.rf _⟩
       · cases E)
    | (split at E
       · rename_i e
         rw [e]
         cases E
         exact ⟨hb, rfl, S, lm_rest.rf _⟩
       · cases E)
theorem lm_frame : ∀ (f d y : Nat) (l : List am_I) (ls st : List Int) (hs hb : lm_H) (v : Int) (hs' : lm_H), lm_run f d y l ls st hs = some (v, hs') → lm_sub F hs hb → ∃ hb', lm_run f d y l ls st hb = some (v, hb') ∧ lm_sub F hs' hb' ∧ lm_rest F hb hb' := by
  intro f
  induction f with
  | zero => intro d y l ls st hs hb v hs' hr; cases hr
  | succ f ih =>
    intro d y l ls st hs hb v hs' hr S
    cases l with
    | nil => cases hr
    | cons c l' =>
      obtain ⟨i, r0, pc⟩ := c
      unfold lm_run at hr ⊢
      dsimp only at hr ⊢
      split at hr
      · split at hr
        · rename_i ls' st' h' e
          obtain ⟨hb1, e1, S1, R1⟩ := lm_st_frame S e
          rw [e1]
          obtain ⟨hb2, e2, S2, R2⟩ := ih _ _ _ _ _ _ _ _ _ hr S1
          exact ⟨hb2, e2, S2, R1.tr R2⟩
        · cases hr
      · split at hr
        · exact ih _ _ _ _ _ _ _ _ _ hr S
        · exact ih _ _ _ _ _ _ _ _ _ hr S
        · cases hr
      · unfold lm_ret at hr ⊢
        split at hr
        all_goals first
          | (cases hr; exact ⟨hb, rfl, S, lm_rest.rf _⟩)
          | cases hr
      · split at hr
        · rename_i d' kd y' n
          split at hr
          · rename_i c0
            rw [if_pos c0]
            split at hr
            · split at hr
              · rename_i c1
                rw [if_pos (by rw [S.l c1]; exact c1)]
                exact ih _ _ _ _ _ _ _ _ _ hr S
              · cases hr
            · cases hr
          · rename_i c0
            rw [if_neg c0]
            split at hr
            · rename_i c1
              rw [if_pos c1]
              split at hr
              · rename_i q h' e
                unfold lm_cp at e
                split at e
                · split at e
                  · rename_i n1 dp t sp s q1 g
                    cases e
                    have g1 : 0 ≤ h_l hs s := by omega
                    have g2 : 0 ≤ h_l hs t := by omega
                    have e3 : lm_cp (n1 :: dp :: t :: sp :: s :: q) hb = some (q, h_c hb s sp t dp n1) := by
                      unfold lm_cp
                      dsimp only
                      rw [S.l g1, S.l g2, if_pos g]
                    rw [e3]
                    obtain ⟨S1, R1⟩ := S.cpy g2 g1 sp dp n1
                    obtain ⟨hb2, e2, S2, R2⟩ := ih _ _ _ _ _ _ _ _ _ hr S1
                    exact ⟨hb2, e2, S2, R1.tr R2⟩
                  · cases e
                · cases e
              · cases hr
            · rename_i c1
              rw [if_neg c1]
              split at hr
              · rename_i c2
                rw [if_pos c2]
                split at hr
                · exact ih _ _ _ _ _ _ _ _ _ hr S
                · cases hr
              · rename_i c2
                rw [if_neg c2]
                split at hr
                · rename_i c3
                  rw [if_pos (by rcases c3 with c3 | c3; exact Or.inl c3; exact Or.inr (by rw [S.l c3]; exact c3))]
                  split at hr
                  · rename_i v1 h1 e
                    obtain ⟨hb1, e1, S1, R1⟩ := ih _ _ _ _ _ _ _ _ _ e S
                    rw [e1]
                    obtain ⟨hb2, e2, S2, R2⟩ := ih _ _ _ _ _ _ _ _ _ hr S1
                    exact ⟨hb2, e2, S2, R1.tr R2⟩
                  · cases hr
                · cases hr
        · cases hr
end
/-- deeper is no harm -/
theorem lm_deep1 : ∀ (f d y : Nat) (l : List am_I) (ls st : List Int) (h : lm_H) (r : Int × lm_H), lm_run f d y l ls st h = some r → lm_run f (d + 1) y l ls st h = some r := by
  intro f
  induction f with
  | zero => intro d y l ls st h r hr; cases hr
  | succ f ih =>
    intro d y l ls st h r hr
    cases l with
    | nil => cases hr
    | cons c l' =>
      obtain ⟨i, r0, pc⟩ := c
      unfold lm_run at hr ⊢
      dsimp only at hr ⊢
      split at hr
      · split at hr
        · exact ih _ _ _ _ _ _ _ hr
        · cases hr
      · split at hr
        · exact ih _ _ _ _ _ _ _ hr
        · exact ih _ _ _ _ _ _ _ hr
        · cases hr
      · exact hr
      · split at hr
        · rename_i d' kd y' n
          split at hr
          · rename_i c0
            rw [if_pos c0]
            split at hr
            · split at hr
              · rename_i c1
                rw [if_pos c1]
                exact ih _ _ _ _ _ _ _ hr
              · cases hr
            · cases hr
          · rename_i c0
            rw [if_neg c0]
            split at hr
            · rename_i c1
              rw [if_pos c1]
              split at hr
              · exact ih _ _ _ _ _ _ _ hr
              · cases hr
            · rename_i c1
              rw [if_neg c1]
              split at hr
              · rename_i c2
                rw [if_pos c2]
                split at hr
                · exact ih _ _ _ _ _ _ _ hr
                · cases hr
              · rename_i c2
                rw [if_neg c2]
                split at hr
                · rename_i c3
                  rw [if_pos c3]
                  split at hr
                  · rename_i e; rw [ih _ _ _ _ _ _ _ e]; exact ih _ _ _ _ _ _ _ hr
                  · cases hr
                · cases hr
        · cases hr
theorem lm_deep {d d' y : Nat} {l : List am_I} {ls st : List Int} {h : lm_H} {Q : Int → lm_H → Prop} (k : lm_wp d y l ls st h Q) (hd : d ≤ d') : lm_wp d' y l ls st h Q := by
  obtain ⟨e, rfl⟩ := Nat.le.dest hd
  induction e with
  | zero => exact k
  | succ e ih =>
    obtain ⟨f, v, h', hr, q⟩ := ih (Nat.le_add_right _ _)
    exact ⟨f, v, h', lm_deep1 _ _ _ _ _ _ _ _ hr, q⟩
theorem cw.deep {d d' y : Nat} {l : List am_I} {ls st : List Int} {c : cs_S} {Q : Int → cs_S → Prop} (k : cw d y l ls st c Q) (hd : d ≤ d') : cw d' y l ls st c Q := lm_deep k hd
theorem mw.deep {d d' y : Nat} {l : List am_I} {ls st : List Int} {s : ms_S} {Q : Int → ms_S → Prop} (k : mw d y l ls st s Q) (hd : d ≤ d') : mw d' y l ls st s Q := fun n m => lm_deep (k n m) hd
