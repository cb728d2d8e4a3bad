set_option maxRecDepth 100000
/-! differences of two sorted lists, pure -/
def rn (x : rwt) : List rwt → Nat
  | [] => 0
  | y :: L => if y = x then rn x L + 1 else 0
def mg : Nat → List rwt → List rwt → List (rwt × Int)
  | 0, _, _ => []
  | _ + 1, [], [] => []
  | f + 1, a :: A, [] => (a, -((rn a A + 1 : Nat) : Int)) :: mg f (A.drop (rn a A)) []
  | f + 1, [], b :: B => (b, ((rn b B + 1 : Nat) : Int)) :: mg f [] (B.drop (rn b B))
  | f + 1, a :: A, b :: B => if r_cmp a b < 0 then (a, -((rn a A + 1 : Nat) : Int)) :: mg f (A.drop (rn a A)) (b :: B) else if 0 < r_cmp a b then (b, ((rn b B + 1 : Nat) : Int)) :: mg f (a :: A) (B.drop (rn b B)) else (a, ((rn b B + 1 : Nat) : Int) - ((rn a A + 1 : Nat) : Int)) :: mg f (A.drop (rn a A)) (B.drop (rn b B))
section
variable {g : rwt → Int} {A B L : List rwt} {a b x : rwt} {w f : Nat}
theorem rn_le : ∀ (L : List rwt), rn x L ≤ L.length := by
  intro L
  induction L with
  | nil => exact Nat.le_refl _
  | cons y L ih => unfold rn; split <;> simp <;> omega
theorem ls_rn : ∀ (L : List rwt), ls g L = (rn x L : Int) * g x + ls g (L.drop (rn x L)) := by
  intro L
  induction L with
  | nil => simp [rn, ls]
  | cons y L ih =>
    by_cases c : y = x
    · subst c
      have e : rn y (y :: L) = rn y L + 1 := by simp [rn]
      rw [e]
      simp only [ls, List.drop_succ_cons]
      rw [ih, Int.natCast_add, Int.add_mul]
      omega
    · have e : rn x (y :: L) = 0 := by simp [rn, c]
      rw [e]; simp
def r_len (w : Nat) (L : List rwt) : Prop := ∀ x ∈ L, x.length = w
def r_lt (a : rwt) (L : List rwt) : Prop := ∀ y ∈ L, r_cmp a y < 0
theorem rn_lt : ∀ (L : List rwt), a.length = w → r_len w L → o_sd r_cmp L → (∀ y ∈ L, r_cmp a y ≤ 0) → r_lt a (L.drop (rn a L)) := by
  intro L
  induction L with
  | nil => intro _ _ _ _ y hy; simp at hy
  | cons z L ih =>
    intro ha hl hs hle
    unfold o_sd at hs
    rw [List.pairwise_cons] at hs
    by_cases c : z = a
    · subst c
      have e : rn z (z :: L) = rn z L + 1 := by simp [rn]
      rw [e, List.drop_succ_cons]
      exact ih ha (fun x hx => hl x (List.mem_cons_of_mem _ hx)) hs.2 (fun y hy => hle y (List.mem_cons_of_mem _ hy))
    · have e : rn a (z :: L) = 0 := by simp [rn, c]
      rw [e, List.drop_zero]
      have hz : r_cmp a z < 0 := by
        have h1 := hle z List.mem_cons_self
        have h2 : r_cmp a z ≠ 0 := fun q => c ((r_cmp_0 (by rw [ha, hl z List.mem_cons_self])).mp q).symm
        omega
      intro y hy
      rcases List.mem_cons.mp hy with q | q
      · subst q; exact hz
      · have hzy := hs.1 y q
        by_cases c2 : r_cmp z y = 0
        · have := (r_cmp_0 (by rw [hl z List.mem_cons_self, hl y hy])).mp c2
          subst this; exact hz
        · exact r_cmp_tr (by rw [ha, hl z List.mem_cons_self]) (by rw [hl z List.mem_cons_self, hl y hy]) hz (by omega)
theorem mg_aux : ∀ (f : Nat) (A B : List rwt), A.length + B.length ≤ f → r_len w A → r_len w B → o_sd r_cmp A → o_sd r_cmp B → (∀ g, b_s g (mg f A B) = ls g B - ls g A) ∧ (∀ e ∈ mg f A B, e.1 ∈ A ∨ e.1 ∈ B) ∧ (mg f A B).Pairwise (fun a b => r_cmp a.1 b.1 < 0) ∧ (mg f A B).length ≤ A.length + B.length := by
  intro f
  induction f with
  | zero =>
    intro A B hl _ _ _ _
    have e1 : A = [] := List.length_eq_zero_iff.mp (by omega)
    have e2 : B = [] := List.length_eq_zero_iff.mp (by omega)
    subst e1 e2
    exact ⟨fun g => by simp [mg, b_s, ls], fun e h => by simp [mg] at h, List.Pairwise.nil, by simp [mg]⟩
  | succ f ih =>
    intro A B hl hA hB sA sB
    have drop_sub : ∀ {L : List rwt} {k : Nat}, ∀ y ∈ L.drop k, y ∈ L := fun y hy => List.mem_of_mem_drop hy
    have drop_sd : ∀ {L : List rwt} (k : Nat), o_sd r_cmp L → o_sd r_cmp (L.drop k) := fun k h => List.Pairwise.sublist (List.drop_sublist k _) h
    have lsc : ∀ (g : rwt → Int) (a : rwt) (A : List rwt), ls g (a :: A) = ((rn a A + 1 : Nat) : Int) * g a + ls g (A.drop (rn a A)) := by
      intro g a A
      show g a + ls g A = _
      rw [ls_rn (x := a) A, Int.natCast_add, Int.add_mul]
      omega
    cases A with
    | nil =>
      cases B with
      | nil => exact ⟨fun g => by simp [mg, b_s, ls], fun e h => by simp [mg] at h, List.Pairwise.nil, by simp [mg]⟩
      | cons b B =>
        have hb := hB b List.mem_cons_self
        have sB' := sB
        unfold o_sd at sB
        rw [List.pairwise_cons] at sB
        obtain ⟨h1, h2, h3, h4⟩ := ih [] (B.drop (rn b B)) (by simp at hl ⊢; omega) hA (fun x hx => hB x (List.mem_cons_of_mem _ (drop_sub x hx))) sA (drop_sd _ sB.2)
        have hlt := rn_lt B hb (fun x hx => hB x (List.mem_cons_of_mem _ hx)) sB.2 sB.1
        refine ⟨fun g => ?_, fun e he => ?_, ?_, ?_⟩
        · unfold mg
          simp only [b_s]
          rw [h1, lsc]
          simp only [ls]; omega
        · unfold mg at he
          rcases List.mem_cons.mp he with q | q
          · subst q; exact Or.inr List.mem_cons_self
          · rcases h2 e q with q | q
            · cases q
            · exact Or.inr (List.mem_cons_of_mem _ (drop_sub _ q))
        · unfold mg
          rw [List.pairwise_cons]
          refine ⟨fun e he => ?_, h3⟩
          rcases h2 e he with q | q
          · cases q
          · exact hlt _ q
        · unfold mg; simp at h4 ⊢; omega
    | cons a A =>
      have ha := hA a List.mem_cons_self
      have sA' := sA
      unfold o_sd at sA
      rw [List.pairwise_cons] at sA
      have hltA := rn_lt A ha (fun x hx => hA x (List.mem_cons_of_mem _ hx)) sA.2 sA.1
      have rA : r_len w (A.drop (rn a A)) := fun x hx => hA x (List.mem_cons_of_mem _ (drop_sub x hx))
      cases B with
      | nil =>
        obtain ⟨h1, h2, h3, h4⟩ := ih (A.drop (rn a A)) [] (by simp at hl ⊢; omega) rA hB (drop_sd _ sA.2) sB
        refine ⟨fun g => ?_, fun e he => ?_, ?_, ?_⟩
        · unfold mg
          simp only [b_s]
          rw [h1, lsc, Int.neg_mul]
          simp only [ls]; omega
        · unfold mg at he
          rcases List.mem_cons.mp he with q | q
          · subst q; exact Or.inl List.mem_cons_self
          · rcases h2 e q with q | q
            · exact Or.inl (List.mem_cons_of_mem _ (drop_sub _ q))
            · cases q
        · unfold mg
          rw [List.pairwise_cons]
          refine ⟨fun e he => ?_, h3⟩
          rcases h2 e he with q | q
          · exact hltA _ q
          · cases q
        · unfold mg; simp at h4 ⊢; omega
      | cons b B =>
        have hb := hB b List.mem_cons_self
        have sB' := sB
        unfold o_sd at sB
        rw [List.pairwise_cons] at sB
        have hltB := rn_lt B hb (fun x hx => hB x (List.mem_cons_of_mem _ hx)) sB.2 sB.1
        have rB : r_len w (B.drop (rn b B)) := fun x hx => hB x (List.mem_cons_of_mem _ (drop_sub x hx))
        have up : ∀ {x y : rwt} {L : List rwt}, x.length = w → y.length = w → r_len w L → r_cmp x y < 0 → (∀ z ∈ L, r_cmp y z ≤ 0) → r_lt x L := by
          intro x y L hx hy hL hxy hz z hzL
          have := hz z hzL
          by_cases c : r_cmp y z = 0
          · have := (r_cmp_0 (by rw [hy, hL z hzL])).mp c
            subst this; exact hxy
          · exact r_cmp_tr (by rw [hx, hy]) (by rw [hy, hL z hzL]) hxy (by omega)
        unfold mg
        by_cases c1 : r_cmp a b < 0
        · rw [if_pos c1]
          obtain ⟨h1, h2, h3, h4⟩ := ih (A.drop (rn a A)) (b :: B) (by simp at hl ⊢; omega) rA hB (drop_sd _ sA.2) sB'
          refine ⟨fun g => ?_, fun e he => ?_, ?_, ?_⟩
          · simp only [b_s]
            rw [h1, lsc g a A, Int.neg_mul]
            omega
          · rcases List.mem_cons.mp he with q | q
            · subst q; exact Or.inl List.mem_cons_self
            · rcases h2 e q with q | q
              · exact Or.inl (List.mem_cons_of_mem _ (drop_sub _ q))
              · exact Or.inr q
          · rw [List.pairwise_cons]
            refine ⟨fun e he => ?_, h3⟩
            rcases h2 e he with q | q
            · exact hltA _ q
            · rcases List.mem_cons.mp q with q2 | q2
              · show r_cmp a e.1 < 0; rw [q2]; exact c1
              · exact up ha hb (fun x hx => hB x (List.mem_cons_of_mem _ hx)) c1 sB.1 _ q2
          · simp at h4 ⊢; omega
        · rw [if_neg c1]
          by_cases c2 : 0 < r_cmp a b
          · rw [if_pos c2]
            have c3 : r_cmp b a < 0 := by rw [r_cmp_sw a b]; omega
            obtain ⟨h1, h2, h3, h4⟩ := ih (a :: A) (B.drop (rn b B)) (by simp at hl ⊢; omega) hA rB sA' (drop_sd _ sB.2)
            refine ⟨fun g => ?_, fun e he => ?_, ?_, ?_⟩
            · simp only [b_s]
              rw [h1, lsc g b B]
              omega
            · rcases List.mem_cons.mp he with q | q
              · subst q; exact Or.inr List.mem_cons_self
              · rcases h2 e q with q | q
                · exact Or.inl q
                · exact Or.inr (List.mem_cons_of_mem _ (drop_sub _ q))
            · rw [List.pairwise_cons]
              refine ⟨fun e he => ?_, h3⟩
              rcases h2 e he with q | q
              · rcases List.mem_cons.mp q with q2 | q2
                · show r_cmp b e.1 < 0; rw [q2]; exact c3
                · exact up hb ha (fun x hx => hA x (List.mem_cons_of_mem _ hx)) c3 sA.1 _ q2
              · exact hltB _ q
            · simp at h4 ⊢; omega
          · rw [if_neg c2]
            have eab : a = b := (r_cmp_0 (by rw [ha, hb])).mp (by omega)
            subst eab
            obtain ⟨h1, h2, h3, h4⟩ := ih (A.drop (rn a A)) (B.drop (rn a B)) (by simp at hl ⊢; omega) rA rB (drop_sd _ sA.2) (drop_sd _ sB.2)
            refine ⟨fun g => ?_, fun e he => ?_, ?_, ?_⟩
            · simp only [b_s]
              rw [h1, lsc g a A, lsc g a B, Int.sub_mul]
              omega
            · rcases List.mem_cons.mp he with q | q
              · subst q; exact Or.inl List.mem_cons_self
              · rcases h2 e q with q | q
                · exact Or.inl (List.mem_cons_of_mem _ (drop_sub _ q))
                · exact Or.inr (List.mem_cons_of_mem _ (drop_sub _ q))
            · rw [List.pairwise_cons]
              refine ⟨fun e he => ?_, h3⟩
              rcases h2 e he with q | q
              · exact hltA _ q
              · exact hltB _ q
            · simp at h4 ⊢; omega
theorem b_s_ne : ∀ (D : List (rwt × Int)), b_s g (D.filter (fun e => decide (e.2 ≠ 0))) = b_s g D := by
  intro D
  induction D with
  | nil => rfl
  | cons e D ih =>
    obtain ⟨x, n⟩ := e
    rw [List.filter_cons]
    by_cases c : n = 0
    · rw [if_neg (by simp [c])]
      simp only [b_s]
      rw [ih, c]; omega
    · rw [if_pos (by simp [c])]
      simp only [b_s]
      rw [ih]
theorem b_uniq : ∀ (D E : List (rwt × Int)), b_ok w D → b_ok w E → (∀ l, b_s (r_ind l) D = b_s (r_ind l) E) → D = E := by
  intro D
  induction D with
  | nil =>
    intro E _ hE h
    cases E with
    | nil => rfl
    | cons e E =>
      have h1 := h e.1
      rw [b_s_mem (m := e.2) hE List.mem_cons_self] at h1
      exact absurd h1.symm (hE.1 e List.mem_cons_self).2
  | cons d D ih =>
    intro E hD hE h
    cases E with
    | nil =>
      have h1 := h d.1
      rw [b_s_mem (m := d.2) hD List.mem_cons_self] at h1
      exact absurd h1 (hD.1 d List.mem_cons_self).2
    | cons e E =>
      obtain ⟨x, n⟩ := d
      obtain ⟨y, m⟩ := e
      have hx := (hD.1 (x, n) List.mem_cons_self)
      have hy := (hE.1 (y, m) List.mem_cons_self)
      have pD := hD.2
      have pE := hE.2
      rw [List.pairwise_cons] at pD pE
      have no : ∀ {x y : rwt} {E : List (rwt × Int)} {m : Int}, x.length = w → y.length = w → (∀ e ∈ E, e.1.length = w) → (∀ e ∈ E, r_cmp y e.1 < 0) → r_cmp x y < 0 → b_s (r_ind x) ((y, m) :: E) = 0 := by
        intro x y E m hx hy hE hl hxy
        refine b_s_none (fun e he => ?_)
        rcases List.mem_cons.mp he with q | q
        · subst q
          intro c
          have c : y = x := c
          subst c
          rw [r_cmp_rf] at hxy; omega
        · intro c
          have := hl e q
          rw [c] at this
          rw [r_cmp_sw x y] at this
          omega
      have hxy : x = y := by
        by_cases c : r_cmp x y < 0
        · have h1 := h x
          rw [b_s_mem (m := n) hD List.mem_cons_self, no hx.1 hy.1 (fun e he => (hE.1 e (List.mem_cons_of_mem _ he)).1) pE.1 c] at h1
          exact absurd h1 hx.2
        · by_cases c2 : r_cmp y x < 0
          · have h1 := h y
            rw [b_s_mem (m := m) hE List.mem_cons_self, no hy.1 hx.1 (fun e he => (hD.1 e (List.mem_cons_of_mem _ he)).1) pD.1 c2] at h1
            exact absurd h1.symm hy.2
          · rw [r_cmp_sw x y] at c2
            exact (r_cmp_0 (by rw [hx.1, hy.1])).mp (by omega)
      subst hxy
      have hnm : n = m := by
        have h1 := h x
        rw [b_s_mem (m := n) hD List.mem_cons_self, b_s_mem (m := m) hE List.mem_cons_self] at h1
        exact h1
      subst hnm
      rw [ih E ⟨fun e he => hD.1 e (List.mem_cons_of_mem _ he), pD.2⟩ ⟨fun e he => hE.1 e (List.mem_cons_of_mem _ he), pE.2⟩ (fun l => by
        have := h l
        simp only [b_s] at this
        omega)]
/-- a bag of the difference is what merging tells -/
theorem mg_bag {D : List (rwt × Int)} {L' L : List rwt} (hD : b_ok w D) (hd : b_df D L' L) (hL : r_len w L) (hL' : r_len w L') : D = (mg (L.length + L'.length) (o_srt r_cmp L) (o_srt r_cmp L')).filter (fun e => decide (e.2 ≠ 0)) := by
  have good : ∀ {M : List rwt}, r_len w M → o_good r_cmp M := fun {M} h => o_cmp_good (T := fun _ => (0, 0, 0, 0, 0, 0)) (sl := fun _ => 0) (es := []) (w := w) h
  have p1 : (o_srt r_cmp L).Perm L := o_srt_perm
  have p2 : (o_srt r_cmp L').Perm L' := o_srt_perm
  have r1 : r_len w (o_srt r_cmp L) := fun x hx => hL x (p1.mem_iff.mp hx)
  have r2 : r_len w (o_srt r_cmp L') := fun x hx => hL' x (p2.mem_iff.mp hx)
  obtain ⟨h1, h2, h3, h4⟩ := mg_aux (w := w) (L.length + L'.length) (o_srt r_cmp L) (o_srt r_cmp L') (by rw [p1.length_eq, p2.length_eq]; exact Nat.le_refl _) r1 r2 (o_srt_sd (good hL)) (o_srt_sd (good hL'))
  refine b_uniq (w := w) _ _ hD ⟨fun e he => ?_, ?_⟩ (fun l => ?_)
  · obtain ⟨q1, q2⟩ := List.mem_filter.mp he
    refine ⟨?_, by simpa using q2⟩
    rcases h2 e q1 with q | q
    · exact r1 _ q
    · exact r2 _ q
  · exact List.Pairwise.sublist List.filter_sublist h3
  · rw [b_s_ne, h1, hd, ls_perm p1, ls_perm p2]
end
