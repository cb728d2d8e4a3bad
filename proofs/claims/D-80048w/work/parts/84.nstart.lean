set_option maxRecDepth 100000
/-! nodes: starting; how many are held -/
section
variable {W W' : nW} {G : nG} {c c' c2 : cs_S} {E E' : Int → bw_L} {P P' : List Int} {o o' o2 : Int → Int} {a b n r x lo : Int} {l m k : rwt} {U L L' R R' F F' V K : List rwt} {Q : Int → cs_S → Prop} {d w D N Nl Nr f : Nat} {τ τl τr : List Int} {t v z1 z2 s wm rb ages x4 : Int} {B : bw_L}
theorem n_empty (h : NI G c E P o) (hn : n ∈ gA G) (hD : 5 ≤ D) (kk : ∀ c' E' P' o', NI G c' E' P' o' → bx c o c' o' → (∀ a, a ≠ n + 9 → a ≠ n + 12 → a ≠ n + 15 → a ≠ n + 18 → E' a = E a) → E' (n + 9) = [] → E' (n + 12) = [] → E' (n + 15) = [] → E' (n + 18) = [] → Q 0 c') : knode_empty (D + 1) n c Q := by
  obtain ⟨d, rfl⟩ : ∃ d, D = d + 2 := ⟨D - 2, by omega⟩
  refine u256_e ⟨h.rn hn, ?_⟩
  rw [h.out hn]
  refine ⟨h.rb (h.g9 hn), n_clear h (h.g9 hn) (fun c1 E1 P1 o1 I1 b1 ea1 z1 => ⟨I1.rn hn, ?_⟩)⟩
  rw [I1.dlt hn]
  refine ⟨I1.rb (I1.g12 hn), n_clear I1 (I1.g12 hn) (fun c2 E2 P2 o2 I2 b2 ea2 z2 => ⟨I2.rn hn, ?_⟩)⟩
  rw [I2.aln hn]
  refine ⟨I2.rb (I2.g15 hn), n_clear I2 (I2.g15 hn) (fun c3 E3 P3 o3 I3 b3 ea3 z3 => ⟨I3.rn hn, ?_⟩)⟩
  rw [I3.frs hn]
  refine ⟨I3.rb (I3.g18 hn), n_clear I3 (I3.g18 hn) (fun c4 E4 P4 o4 I4 b4 ea4 z4 => ?_)⟩
  refine kk c4 E4 P4 o4 I4 (((b1.tr b2).tr b3).tr b4) (fun y h9 h12 h15 h18 => ?_) ?_ ?_ ?_ z4
  · rw [ea4 y h18, ea3 y h15, ea2 y h12, ea1 y h9]
  · rw [ea4 _ (by omega), ea3 _ (by omega), ea2 _ (by omega)]; exact z1
  · rw [ea4 _ (by omega), ea3 _ (by omega)]; exact z2
  · rw [ea4 _ (by omega)]; exact z3
/-- no rows of streams -/
def nW0 (wm : Int) : nW := (fun _ => [], wm)
theorem nW0_ok (co : Nat → Nat) (wm : Int) : nW_ok co (nW0 wm) := fun s => ⟨by show ([] : List rwt).length ≤ 8; simp, fun r hr => by cases hr⟩
theorem n_start (hG : G_ok G) (hw0 : -9223372036854775808 ≤ wm) (hw1 : wm ≤ 9223372036854775807) : ∀ (f : Nat) (lo n : Int) (τ : List Int) (N D : Nat) (c : cs_S) (E : Int → bw_L) (P : List Int) (o : Int → Int) (Q : Int → cs_S → Prop), n_ga G f lo n τ N → f + 330 ≤ D → NI G c E P o →
    (∀ c' E' P' o', NI G c' E' P' o' → nxo c o c' o' → fd_fr lo n c E c' E' → n_dy G c' E' (nW0 wm) f n → (∃ w, b_ok w (bw_p (E' (n + 12)))) → b_df (bw_p (E' (n + 12))) (NL (gT G) (gsl G) (gX G) (nW0 wm) f n) [] → Q 0 c') → knode_start D n wm c Q := by
  intro f
  induction f with
  | zero => intro lo n τ N D c E P o Q h; exact h.elim
  | succ f ih =>
    intro lo n τ N D c E P o Q hga hD h kk
    have hn := hga.1
    have hlo := hga.2.1
    have hT := h.t64
    have hWo := nW0_ok (gco G) wm
    have h237 : ∀ y ∈ gA G, 237 ≤ y := fun y hy => h.n237 hy
    obtain ⟨d, rfl⟩ : ∃ d, D = d + 3 := ⟨D - 3, by omega⟩
    have rA : ∀ {c3 E3 P3 o3}, NI G c3 E3 P3 o3 → ∀ y ∈ gA G, c_r c3 y ≠ 0 := fun I y hy => by rw [I.rn hy]; decide
    have hkm : n_keep (gX G) n ≤ 9223372036854775807 ∨ n_kind (gX G) n ≠ 0 := by
      obtain ⟨-, -, -, -, -, -, -, -, hb⟩ := id hga
      rcases hb with ⟨-, -, -, -, -, -, u, -⟩ | ⟨h1, -⟩ | ⟨h1, -⟩ | ⟨h1, -⟩ | ⟨h1, -⟩ | ⟨h1, -⟩ | ⟨h1, -⟩ | ⟨h1, -⟩ | ⟨h1, -⟩
      · exact Or.inl u
      all_goals (right; omega)
    refine u264_e ⟨h.rn hn, n_empty (D := d + 1) h hn (by omega) (fun c1 E1 P1 o1 I1 b1 ea1 z9 z12 z15 z18 => ⟨I1.rn hn, ?_⟩)⟩
    have rr1 : ∀ y, c_r c y ≠ 0 → c_r c1 y ≠ 0 := fun y hy => by have := b1.1.r (a := y) rfl hy; rw [this]; exact hy
    have ov1 : ∀ y, c_r c y ≠ 0 → c_v c1 413 y 0 = c_v c 413 y 0 := fun y hy => b1.1.v hy (by unfold bw_w; omega) 0
    rw [I1.lft hn]
    by_cases hk : n_kind (gX G) n = 0
    · -- a stream
      obtain ⟨hlft, hrgt⟩ : n_left (gX G) n = -1 ∧ n_right (gX G) n = -1 := by
        rcases hga.ch with ⟨-, u1, u2⟩ | ⟨u, -⟩ | ⟨u, -⟩
        · exact ⟨u1, u2⟩
        · exact absurd hk u
        · exact absurd hk u
      have hkm : n_keep (gX G) n ≤ 9223372036854775807 := by rcases hkm with u | u; exact u; exact absurd hk u
      refine ⟨fun _ => u264_1 ⟨I1.rn hn, ?_⟩, fun q => absurd hlft q⟩
      rw [I1.rgt hn]
      refine ⟨fun _ => u264_2 ⟨I1.rn hn, n_age I1 hn hkm hw0 hw1 (fun c2 s2 hol2 => ?_)⟩, fun q => absurd hrgt q⟩
      obtain ⟨I2, x2⟩ := I1.ag s2
      have hkd : c_v c2 402 n 0 = 0 := by rw [(I2.nd hn).2.1, hk]
      have eN : NL (gT G) (gsl G) (gX G) (nW0 wm) (f + 1) n = [] := by rw [NL_0 hk]; rfl
      obtain ⟨-, -, -, -, hN5, cp9, lm9, -, -⟩ := id hga
      refine ⟨I2.rn hn, u266_e ⟨I2.rn hn, ?_⟩⟩
      rw [hkd]
      refine ⟨fun _ => n_fin (w := 0) (N := N) (F := []) (F' := []) I2 hG hn (by omega) (by rw [z9]; exact b_ok_nil _) (by rw [z9]; exact b_is_nil) (by rw [z12]; exact b_ok_nil _) (by rw [z12]; intro g; rfl) (by simp) (by simp) hN5 cp9 lm9 (fun c3 E3 P3 o3 I3 b3 ea3 hs3 hi3 => ?_), fun q => absurd q (by decide), fun q => absurd q (by decide), fun q => absurd q (by decide), fun q => absurd q (by decide), fun q => absurd q (by decide), fun q => absurd q (by decide), fun q => absurd q (by decide), fun q => absurd q (by decide), fun q => absurd q (by decide), fun q => absurd q (by decide), trivial⟩
      have ov3 : ∀ y, c_r c2 y ≠ 0 → c_v c3 413 y 0 = c_v c2 413 y 0 := fun y hy => b3.1.v hy (by unfold bw_w; omega) 0
      have e12 : E3 (n + 12) = [] := by rw [ea3 _ (by omega)]; exact z12
      refine kk c3 E3 P3 o3 I3 ((b1.oo.tr x2).tr b3.oo) ⟨fun a ha => ?_, fun y hy hr => ?_⟩ ⟨⟨_, hs3⟩, by rw [eN]; exact hi3, fun _ q => ?_, fun q => absurd q (by omega), fun q => absurd q (by omega), fun q => absurd hk q, fun q => absurd hrgt q⟩ ⟨0, by rw [e12]; exact b_ok_nil _⟩ (by rw [e12, eN]; intro g; rfl)
      · rw [ea3 a (by omega), ea1 a (by omega) (by omega) (by omega) (by omega)]
      · rw [ov3 y (by rw [s2.r]; exact rr1 y hr), s2.v (by unfold agw; omega)]; exact ov1 y hr
      · rw [ov3 n (rA I2 n hn)]; exact hol2 q
    · have opW := NL_op2 (W := nW0 wm) h237 hga hk
      obtain ⟨τl, Nl, gl, hll⟩ : ∃ τl Nl, n_ga G f lo (n_left (gX G) n) τl Nl ∧ n_left (gX G) n + 21 ≤ n := by
        rcases hga.ch with ⟨u, -⟩ | ⟨-, -, u2, τl, Nl, u3⟩ | ⟨-, u1, u2, ⟨τl, Nl, u3⟩, -⟩
        · exact absurd u hk
        · exact ⟨τl, Nl, u3, u2⟩
        · exact ⟨τl, Nl, u3, u1⟩
      have hrg : n_right (gX G) n ≠ -1 → ∃ τr Nr, n_ga G f (n_left (gX G) n) (n_right (gX G) n) τr Nr ∧ n_right (gX G) n + 21 ≤ n := by
        intro q
        rcases hga.ch with ⟨-, -, u⟩ | ⟨-, u, -⟩ | ⟨-, u1, u2, ⟨τl, Nl, u3⟩, τr, Nr, u4⟩
        · exact absurd u q
        · exact absurd u q
        · exact ⟨τr, Nr, u4, u2⟩
      have hlA := gl.in.1
      have hllo := gl.in.2
      have hl237 := h237 _ hlA
      have hr1 : n_kind (gX G) n = 1 → n_right (gX G) n ≠ -1 := by
        intro q1
        obtain ⟨-, -, -, -, -, -, -, -, hb⟩ := id hga
        rcases hb with ⟨h0, -⟩ | ⟨h1, -, -, -, -, -, τl, τr, Nl, Nr, gl, gr, -⟩ | ⟨h1, -⟩ | ⟨h1, -⟩ | ⟨h1, -⟩ | ⟨h1, -⟩ | ⟨h1, -⟩ | ⟨h1, -⟩ | ⟨h1, -⟩
        · omega
        · have := h237 _ gr.in.1; omega
        all_goals omega
      -- told for the first time
      have last : ∀ (c3 : cs_S) (E3 : Int → bw_L) (P3 : List Int) (o3 : Int → Int) (y2 : Int), NI G c3 E3 P3 o3 → nxo c o c3 o3 → (∀ a, (a ≤ lo + 20 ∨ n + 20 < a) → E3 a = E a) → E3 (n + 9) = [] → E3 (n + 12) = [] → E3 (n + 15) = [] → (∀ y, (y ≤ lo ∨ n < y) → c_r c y ≠ 0 → c_v c3 413 y 0 = c_v c 413 y 0) → n_dy G c3 E3 (nW0 wm) f (n_left (gX G) n) → (∃ w, b_ok w (bw_p (E3 (n_left (gX G) n + 12)))) → b_df (bw_p (E3 (n_left (gX G) n + 12))) (NL (gT G) (gsl G) (gX G) (nW0 wm) f (n_left (gX G) n)) [] → (n_right (gX G) n ≠ -1 → n_dy G c3 E3 (nW0 wm) f (n_right (gX G) n) ∧ (∃ w, b_ok w (bw_p (E3 (n_right (gX G) n + 12)))) ∧ b_df (bw_p (E3 (n_right (gX G) n + 12))) (NL (gT G) (gsl G) (gX G) (nW0 wm) f (n_right (gX G) n)) []) → cw (d + 2 + 1) 264 (am_blk 264 2) [n, wm, y2] [] c3 Q := by
        intro c3 E3 P3 o3 y2 I3 x3 ea3 e9 e12 e15 ol3 dyl sdl dfl hr3
        have keepn : ∀ c4, c_sm (agw n) c3 c4 → NI G c4 E3 P3 o3 ∧ nxo c3 o3 c4 o3 := fun c4 s4 => I3.ag s4
        have tn : ∀ lo τl Nl, n_ga G f lo (n_left (gX G) n) τl Nl → ([] : List rwt).length ≤ Nl ∧ ∀ y ∈ ([] : List rwt), rg τl y := fun _ _ _ _ => ⟨by simp, fun y hy => by cases hy⟩
        have tn2 : ∀ lo τl Nl, n_ga G f lo (n_right (gX G) n) τl Nl → ([] : List rwt).length ≤ Nl ∧ ∀ y ∈ ([] : List rwt), rg τl y := fun _ _ _ _ => ⟨by simp, fun y hy => by cases hy⟩
        have hage : ∀ Q', (∀ c4, c_sm (agw n) c3 c4 → Q' 0 c4) → knode_age (d + 2) n wm c3 Q' := by
          intro Q' hq
          rcases hkm with u | u
          · exact n_age I3 hn u hw0 hw1 (fun c4 s4 _ => hq c4 s4)
          · -- keep is no matter here
            have ek : c_v c3 412 n 0 = n_keep (gX G) n := (I3.nd hn).2.2.2.2.2.1
            have b2 : ∀ z, cw (d + 2) 265 (am_blk 265 2) [n, wm, 0] [z, n] c3 Q' := fun z => u265_2 ⟨I3.rn hn, fun c4 e4 => u265_3 (hq c4 (by subst e4; exact c_sm.u c3 ⟨rfl, rfl⟩ _ _))⟩
            exact u265_e ⟨I3.rn hn, fun _ => u265_3 (hq c3 (c_sm.rf _ c3)), fun _ => ⟨I3.rn hn, fun _ => ⟨I3.rn hn, b2 _⟩, fun _ => b2 _⟩⟩
        refine u264_2 ⟨I3.rn hn, hage _ (fun c4 s4 => ?_)⟩
        obtain ⟨I4, x4⟩ := keepn c4 s4
        have ov4 : ∀ y, y ≠ n → c_v c4 413 y 0 = c_v c3 413 y 0 := fun y hy => s4.v (by unfold agw; omega) 0
        have dyl4 : n_dy G c4 E3 (nW0 wm) f (n_left (gX G) n) := n_dy.fr f lo _ τl Nl gl dyl (fun _ _ _ => rfl) (fun y _ h1 h2 => ov4 y (by omega))
        refine ⟨I4.rn hn, n_recount (D := d + 1) (z1 := 1) (L' := NL (gT G) (gsl G) (gX G) (nW0 wm) f (n_left (gX G) n)) (L := []) (R' := if n_right (gX G) n = -1 then [] else NL (gT G) (gsl G) (gX G) (nW0 wm) f (n_right (gX G) n)) (R := []) (F := []) I4 hG hga hk (by omega) e12 (ch_of hT hWo tn dyl4 sdl dfl) (fun lo τr Nr g => ?_) (fun q => by rw [if_pos q]; exact ⟨rfl, rfl⟩) ⟨0, by rw [e9]; exact b_ok_nil _⟩ (by rw [e9]; exact b_is_nil) (Or.inr ⟨by decide, rfl, rfl, rfl⟩) (fun q1 q2 => by rw [e15]; exact ⟨⟨0, b_ok_nil _⟩, fun g => rfl⟩) (fun q => by rw [e15, n_op_nil hk (by omega)]; exact ⟨⟨0, b_ok_nil _⟩, fun g => rfl⟩) (fun c5 E5 P5 o5 I5 x5 ea5 so5 io5 sd5 df5 al1 al2 => ?_)⟩
        · have hr1' : n_right (gX G) n ≠ -1 := by have := h237 _ g.in.1; omega
          rw [if_neg hr1']
          obtain ⟨q1, q2, q3⟩ := hr3 hr1'
          obtain ⟨τr', Nr', gr', hrl'⟩ := hrg hr1'
          have hri := gr'.in.2
          exact ch_of hT hWo tn2 (n_dy.fr f _ _ τr' Nr' gr' q1 (fun _ _ _ => rfl) (fun y _ h1 h2 => ov4 y (by omega))) q2 q3 lo τr Nr g
        · rw [← opW] at io5 df5
          refine kk c5 E5 P5 o5 I5 ((x3.tr x4).tr x5.oo) ⟨fun a ha => ?_, fun y hy hr => ?_⟩ ⟨so5, io5, fun q => absurd q hk, fun q1 q2 => ?_, fun q => by rw [opW]; exact al2 q, fun _ => ?_, fun hr1' => ?_⟩ sd5 df5
          · rw [ea5 a (by omega) (by omega) (by omega) (by omega)]; exact ea3 a ha
          · have r3 : c_r c3 y ≠ 0 := by have := x3.1.r (a := y) rfl hr; rw [this]; exact hr
            rw [x5.old (by rw [s4.r]; exact r3), ov4 y (by omega)]; exact ol3 y hy hr
          · obtain ⟨u1, u2⟩ := al1 q1 q2
            rw [if_neg (hr1 q1)] at u2
            exact ⟨u1, u2⟩
          · exact n_dy.fr f lo _ τl Nl gl dyl4 (fun a h1 h2 => ea5 a (by omega) (by omega) (by omega) (by omega)) (fun y hy _ _ => x5.old (rA I4 y hy))
          · obtain ⟨τr, Nr, gr, hrl⟩ := hrg hr1'
            have hri := gr.in.2
            refine n_dy.fr f _ _ τr Nr gr (hr3 hr1').1 (fun a h1 h2 => ea5 a (by omega) (by omega) (by omega) (by omega)) (fun y hy h1 h2 => ?_)
            rw [x5.old (rA I4 y hy)]; exact ov4 y (by omega)
      refine ⟨fun q => absurd q (by omega), fun _ => ⟨I1.rn hn, I1.rn hlA, ih lo _ τl Nl (d + 2) c1 E1 P1 o1 _ gl (by omega) I1 (fun c2 E2 P2 o2 I2 x2 fr2 dy2 sd2 df2 => u264_1 ⟨I2.rn hn, ?_⟩)⟩⟩
      rw [I2.rgt hn]
      have ea2 : ∀ a, (a ≤ lo + 20 ∨ n + 20 < a) → E2 a = E a := fun a h1 => (fr2.1 a (by omega)).trans (ea1 a (by omega) (by omega) (by omega) (by omega))
      have ol2 : ∀ y, (y ≤ lo ∨ n < y) → c_r c y ≠ 0 → c_v c2 413 y 0 = c_v c 413 y 0 := fun y hy hr => by rw [fr2.2 y (by omega) (rr1 y hr)]; exact ov1 y hr
      refine ⟨fun q => ?_, fun q => ⟨I2.rn hn, ?_⟩⟩
      · exact last c2 E2 P2 o2 _ I2 (b1.oo.tr x2) ea2 (by rw [fr2.1 _ (by omega)]; exact z9) (by rw [fr2.1 _ (by omega)]; exact z12) (by rw [fr2.1 _ (by omega)]; exact z15) ol2 dy2 sd2 df2 (fun u => absurd q u)
      · obtain ⟨τr, Nr, gr, hrl⟩ := hrg q
        have hrA := gr.in.1
        have hrlo := gr.in.2
        refine ⟨I2.rn hrA, ih (n_left (gX G) n) _ τr Nr (d + 2) c2 E2 P2 o2 _ gr (by omega) I2 (fun c3 E3 P3 o3 I3 x3 fr3 dy3 sd3 df3 => ?_)⟩
        have el12 : E3 (n_left (gX G) n + 12) = E2 (n_left (gX G) n + 12) := fr3.1 _ (by omega)
        refine last c3 E3 P3 o3 _ I3 ((b1.oo.tr x2).tr x3) (fun a ha => ?_) (by rw [fr3.1 _ (by omega), fr2.1 _ (by omega)]; exact z9) (by rw [fr3.1 _ (by omega), fr2.1 _ (by omega)]; exact z12) (by rw [fr3.1 _ (by omega), fr2.1 _ (by omega)]; exact z15) (fun y hy hr => ?_) (n_dy.fr f lo _ τl Nl gl dy2 (fun a h1 h2 => fr3.1 a (by omega)) (fun y hy h1 h2 => fr3.2 y (by omega) (rA I2 y hy))) (by rw [el12]; exact sd2) (by rw [el12]; exact df2) (fun _ => ⟨dy3, sd3, df3⟩)
        · rw [fr3.1 a (by omega)]; exact ea2 a ha
        · have r2 : c_r c2 y ≠ 0 := by have := x2.1.r (a := y) rfl (rr1 y hr); rw [this]; exact rr1 y hr
          rw [fr3.2 y (by omega) r2]; exact ol2 y hy hr
end
