set_option maxRecDepth 100000
/-! nodes: feeding, whole; starting -/
/-- what feeding leaves alone -/
def fd_fr (lo n : Int) (c : cs_S) (E : Int → bw_L) (c' : cs_S) (E' : Int → bw_L) : Prop := (∀ a, (a ≤ lo + 20 ∨ n + 20 < a) → E' a = E a) ∧ ∀ y, (y ≤ lo ∨ n < y) → c_r c y ≠ 0 → c_v c' 413 y 0 = c_v c 413 y 0
section
variable {W W' : nW} {G : nG} {c c' c2 : cs_S} {E E' : Int → bw_L} {P P' : List Int} {o o' o2 : Int → Int} {a b n r x lo : Int} {l m k : rwt} {U L L' R R' F F' V K : List rwt} {Q : Int → cs_S → Prop} {d w D N Nl Nr f : Nat} {τ τl τr : List Int} {t v z1 z2 s wm rb ages x4 : Int} {B : bw_L}
theorem ch_of (hT : x_T64 (gT G)) (hW' : nW_ok (gco G) W') (hLt : ∀ lo τl Nl, n_ga G f lo n τl Nl → L.length ≤ Nl ∧ ∀ y ∈ L, rg τl y) (hdy : n_dy G c E W' f n) (hd : ∃ w, b_ok w (bw_p (E (n + 12)))) (hdf : b_df (bw_p (E (n + 12))) (NL (gT G) (gsl G) (gX G) W' f n) L) : ∀ lo τl Nl, n_ga G f lo n τl Nl → ch_ok E n τl Nl (NL (gT G) (gsl G) (gX G) W' f n) L := by
  intro lo τl Nl hga
  obtain ⟨t1, t2⟩ := n_ga.NL f lo n τl Nl hT hW' hga
  obtain ⟨s1, s2⟩ := hLt lo τl Nl hga
  cases f with
  | zero => exact hga.elim
  | succ f =>
    obtain ⟨⟨w0, ho0⟩, hio, -⟩ := hdy
    obtain ⟨w1, hd1⟩ := hd
    refine ⟨b_ok_re ho0 (fun e he => (t2 _ (hio.mem ho0 he).2).1), hio, b_ok_re hd1 (fun e he => ?_), hdf, t2, s2, t1, s1⟩
    rcases hdf.mem hd1 he with q | q
    · exact (t2 _ q).1
    · exact (s2 _ q).1
theorem n_feed (hG : G_ok G) (hW : nW_ok (gco G) W) (hW' : nW_ok (gco G) W') (hfd : fd_ok G W W' B s rb ages x4) : ∀ (f : Nat) (lo n : Int) (τ : List Int) (N D : Nat) (c : cs_S) (E : Int → bw_L) (P : List Int) (o : Int → Int) (Q : Int → cs_S → Prop), n_ga G f lo n τ N → f + 330 ≤ D → NI G c E P o → n_dy G c E W f n → rb ≤ lo + 20 → E rb = B →
    (∀ c' E' P' o', NI G c' E' P' o' → nxo c o c' o' → fd_fr lo n c E c' E' → n_dy G c' E' W' f n → (∃ w, b_ok w (bw_p (E' (n + 12)))) → b_df (bw_p (E' (n + 12))) (NL (gT G) (gsl G) (gX G) W' f n) (NL (gT G) (gsl G) (gX G) W f n) → Q 0 c') → knode_feed D n s rb ages x4 c Q := by
  intro f
  induction f with
  | zero => intro lo n τ N D c E P o Q h; exact h.elim
  | succ f ih =>
    intro lo n τ N D c E P o Q hga hD h hdy hrb hB kk
    have hn := hga.1
    have hlo := hga.2.1
    have hT := h.t64
    have h237 : ∀ y ∈ gA G, 237 ≤ y := fun y hy => h.n237 hy
    obtain ⟨D, rfl⟩ : ∃ D', D = D' + 1 := ⟨D - 1, by omega⟩
    by_cases hk : n_kind (gX G) n = 0
    · refine n_feedS h hG hga hk (by omega) hW hW' hdy hrb hB hfd (fun c' E' P' o' I x ea ol dy sd df => kk c' E' P' o' I x ⟨fun a ha => ea a (by omega) (by omega), fun y hy hr => ol y (by omega) hr⟩ dy sd df)
    obtain ⟨ho, hio, -, hal1, hal2, hdl, hdr⟩ := id hdy
    have opW := NL_op2 (W := W) h237 hga hk
    have opW' := NL_op2 (W := W') h237 hga hk
    have hdl := hdl hk
    obtain ⟨τl, Nl, gl, hll⟩ : ∃ τl Nl, n_ga G f lo (n_left (gX G) n) τl Nl ∧ n_left (gX G) n + 21 ≤ n := by
      rcases hga.ch with ⟨u, -⟩ | ⟨-, -, u2, τl, Nl, u3⟩ | ⟨-, u1, u2, ⟨τl, Nl, u3⟩, -⟩
      · exact absurd u hk
      · exact ⟨τl, Nl, u3, u2⟩
      · exact ⟨τl, Nl, u3, u1⟩
    have hrg : n_right (gX G) n ≠ -1 → ∃ τr Nr, n_ga G f (n_left (gX G) n) (n_right (gX G) n) τr Nr ∧ n_right (gX G) n + 21 ≤ n := by
      intro q
      rcases hga.ch with ⟨-, -, u⟩ | ⟨-, u, -⟩ | ⟨-, u1, u2, ⟨τl, Nl, u3⟩, τr, Nr, u4⟩
      · exact absurd u q
      · exact absurd u q
      · exact ⟨τr, Nr, u4, u2⟩
    have hlA := gl.in.1
    have hllo := gl.in.2
    obtain ⟨d, rfl⟩ : ∃ d, D = d + 2 := ⟨D - 2, by omega⟩
    refine u282_e ⟨h.rn hn, ?_⟩
    rw [h.dlt hn]
    refine ⟨h.rb (h.g12 hn), n_clear (d := d) h (h.g12 hn) (fun c1 E1 P1 o1 I1 b1 ea1 hz1 => ⟨I1.rn hn, ?_⟩)⟩
    have hkd : c_v c1 402 n 0 = n_kind (gX G) n := (I1.nd hn).2.1
    have ov1 : ∀ y, c_r c y ≠ 0 → c_v c1 413 y 0 = c_v c 413 y 0 := fun y hy => b1.1.v hy (by unfold bw_w; omega) 0
    have rr1 : ∀ y, c_r c y ≠ 0 → c_r c1 y ≠ 0 := fun y hy => by have := b1.1.r (a := y) rfl hy; rw [this]; exact hy
    have rA : ∀ {c3 E3 P3 o3}, NI G c3 E3 P3 o3 → ∀ y ∈ gA G, c_r c3 y ≠ 0 := fun I y hy => by rw [I.rn hy]; decide
    rw [hkd]
    refine ⟨fun _ => ⟨I1.rn hn, ?_⟩, fun q => absurd hk q⟩
    rw [I1.lft hn]
    refine ⟨I1.rn hlA, ih lo _ τl Nl (d + 2) c1 E1 P1 o1 _ gl (by omega) I1 (n_dy.fr f lo _ τl Nl gl hdl (fun a h1 h2 => ea1 a (by omega)) (fun y hy _ _ => ov1 y (rA h y hy))) hrb (by rw [ea1 _ (by omega)]; exact hB) (fun c2 E2 P2 o2 I2 x2 fr2 dy2 sd2 df2 => ⟨I2.rn hn, ?_⟩)⟩
    rw [I2.rgt hn]
    -- behind those beneath: told anew, if something changed
    have last : ∀ (c3 : cs_S) (E3 : Int → bw_L) (P3 : List Int) (o3 : Int → Int), NI G c3 E3 P3 o3 → nxo c o c3 o3 → (∀ a, (a ≤ lo + 20 ∨ n + 20 < a ∨ a = n + 9 ∨ a = n + 15) → E3 a = E a) → E3 (n + 12) = [] → (∀ y, (y ≤ lo ∨ n < y) → c_r c y ≠ 0 → c_v c3 413 y 0 = c_v c 413 y 0) → n_dy G c3 E3 W' f (n_left (gX G) n) → (∃ w, b_ok w (bw_p (E3 (n_left (gX G) n + 12)))) → b_df (bw_p (E3 (n_left (gX G) n + 12))) (NL (gT G) (gsl G) (gX G) W' f (n_left (gX G) n)) (NL (gT G) (gsl G) (gX G) W f (n_left (gX G) n)) → (n_right (gX G) n ≠ -1 → n_dy G c3 E3 W' f (n_right (gX G) n) ∧ (∃ w, b_ok w (bw_p (E3 (n_right (gX G) n + 12)))) ∧ b_df (bw_p (E3 (n_right (gX G) n + 12))) (NL (gT G) (gsl G) (gX G) W' f (n_right (gX G) n)) (NL (gT G) (gsl G) (gX G) W f (n_right (gX G) n))) → cw (d + 2 + 1) 282 (am_blk 282 4) [n, s, rb, ages, x4, 0] [] c3 Q := by
      intro c3 E3 P3 o3 I3 x3 ea3 hz3 ol3 dyl sdl dfl hr3
      have e9 : E3 (n + 9) = E (n + 9) := ea3 _ (by omega)
      have e15 : E3 (n + 15) = E (n + 15) := ea3 _ (by omega)
      have cl := ch_of hT hW' (fun lo τl Nl g => n_ga.NL (W := W) f lo _ τl Nl hT hW g) dyl sdl dfl
      -- told anew
      have b5 : cw (d + 2 + 1) 282 (am_blk 282 5) [n, s, rb, ages, x4, 0] [] c3 Q := by
        refine u282_5 ⟨I3.rn hn, n_recount (D := d + 1) (z1 := 0) (L' := NL (gT G) (gsl G) (gX G) W' f (n_left (gX G) n)) (L := NL (gT G) (gsl G) (gX G) W f (n_left (gX G) n)) (R' := if n_right (gX G) n = -1 then [] else NL (gT G) (gsl G) (gX G) W' f (n_right (gX G) n)) (R := if n_right (gX G) n = -1 then [] else NL (gT G) (gsl G) (gX G) W f (n_right (gX G) n)) (F := NL (gT G) (gsl G) (gX G) W (f + 1) n) I3 hG hga hk (by omega) hz3 cl (fun lo τr Nr g => ?_) (fun q => by rw [if_pos q, if_pos q]; exact ⟨rfl, rfl⟩) (by rw [e9]; exact ho) (by rw [e9]; exact hio) (Or.inl ⟨rfl, opW⟩) (fun q1 q2 => ?_) (fun q => by rw [e15, ← opW]; exact hal2 q) (fun c4 E4 P4 o4 I4 x4' ea4 so4 io4 sd4 df4 al1 al2 => u282_6 ?_)⟩
        · have hr1 : n_right (gX G) n ≠ -1 := by have := h237 _ g.in.1; omega
          rw [if_neg hr1, if_neg hr1]
          obtain ⟨q1, q2, q3⟩ := hr3 hr1
          exact ch_of hT hW' (fun lo τl Nl g => n_ga.NL (W := W) f lo _ τl Nl hT hW g) q1 q2 q3 lo τr Nr g
        · have hr1 : n_right (gX G) n ≠ -1 := by
            obtain ⟨-, -, -, -, -, -, -, -, hb⟩ := id hga
            rcases hb with ⟨h0, -⟩ | ⟨h1, -, -, -, -, -, τl, τr, Nl, Nr, gl, gr, -⟩ | ⟨h1, -⟩ | ⟨h1, -⟩ | ⟨h1, -⟩ | ⟨h1, -⟩ | ⟨h1, -⟩ | ⟨h1, -⟩ | ⟨h1, -⟩
            · omega
            · have := h237 _ gr.in.1; omega
            all_goals omega
          rw [if_neg hr1, e15]
          exact hal1 q1 q2
        · rw [← opW'] at io4 df4
          have hlx := gl.in
          refine kk c4 E4 P4 o4 I4 (x3.tr x4'.oo) ⟨fun a ha => ?_, fun y hy hr => ?_⟩ ⟨so4, io4, fun q => absurd q hk, fun q1 q2 => ?_, fun q => by rw [opW']; exact al2 q, fun _ => ?_, fun hr1 => ?_⟩ sd4 df4
          · rw [ea4 a (by omega) (by omega) (by omega) (by omega)]; exact ea3 a (by omega)
          · rw [x4'.old (by have := x3.1.r (a := y) rfl hr; rw [this]; exact hr)]; exact ol3 y hy hr
          · obtain ⟨u1, u2⟩ := al1 q1 q2
            have hr1 : n_right (gX G) n ≠ -1 := by
              obtain ⟨-, -, -, -, -, -, -, -, hb⟩ := id hga
              rcases hb with ⟨h0, -⟩ | ⟨h1, -, -, -, -, -, τl, τr, Nl, Nr, gl, gr, -⟩ | ⟨h1, -⟩ | ⟨h1, -⟩ | ⟨h1, -⟩ | ⟨h1, -⟩ | ⟨h1, -⟩ | ⟨h1, -⟩ | ⟨h1, -⟩
              · omega
              · have := h237 _ gr.in.1; omega
              all_goals omega
            rw [if_neg hr1] at u2
            exact ⟨u1, u2⟩
          · exact n_dy.fr f lo _ τl Nl gl dyl (fun a h1 h2 => ea4 a (by omega) (by omega) (by omega) (by omega)) (fun y hy _ _ => x4'.old (rA I3 y hy))
          · obtain ⟨τr, Nr, gr, hrl⟩ := hrg hr1
            exact n_dy.fr f _ _ τr Nr gr (hr3 hr1).1 (fun a h1 h2 => ea4 a (by omega) (by omega) (by omega) (by omega)) (fun y hy _ _ => x4'.old (rA I3 y hy))
      -- nothing changed beneath
      have b6 : E3 (n_left (gX G) n + 12) = [] → (n_right (gX G) n ≠ -1 → E3 (n_right (gX G) n + 12) = []) → cw (d + 2 + 1) 282 (am_blk 282 6) [n, s, rb, ages, x4, 0] [] c3 Q := by
        intro hl0 hr0
        rw [hl0] at dfl
        have pl := dfl.perm
        have pr : (if n_right (gX G) n = -1 then [] else NL (gT G) (gsl G) (gX G) W' f (n_right (gX G) n)).Perm (if n_right (gX G) n = -1 then [] else NL (gT G) (gsl G) (gX G) W f (n_right (gX G) n)) := by
          by_cases q : n_right (gX G) n = -1
          · rw [if_pos q, if_pos q]
          · rw [if_neg q, if_neg q]
            have := (hr3 q).2.2
            rw [hr0 q] at this
            exact this.perm
        obtain ⟨-, s2⟩ := n_ga.NL (W := W) f lo _ τl Nl hT hW gl
        have pn : (NL (gT G) (gsl G) (gX G) W' (f + 1) n).Perm (NL (gT G) (gsl G) (gX G) W (f + 1) n) := by
          rw [opW, opW']; exact n_op_perm (w := τl.length) (fun y hy => (s2 y hy).1) pl pr
        refine u282_6 (kk c3 E3 P3 o3 I3 x3 ⟨fun a ha => ea3 a (by omega), ol3⟩ ⟨by rw [e9]; exact ho, fun g => ?_, fun q => absurd q hk, fun q1 q2 => ?_, fun q => ?_, fun _ => dyl, fun q => (hr3 q).1⟩ ⟨0, by rw [hz3]; exact b_ok_nil _⟩ (fun g => ?_))
        · rw [e9, hio g, ls_perm pn]
        · obtain ⟨u1, u2⟩ := hal1 q1 q2
          rw [e15]
          refine ⟨u1, fun g => ?_⟩
          have hr1 : n_right (gX G) n ≠ -1 := by
            obtain ⟨-, -, -, -, -, -, -, -, hb⟩ := id hga
            rcases hb with ⟨h0, -⟩ | ⟨h1, -, -, -, -, -, τl, τr, Nl, Nr, gl, gr, -⟩ | ⟨h1, -⟩ | ⟨h1, -⟩ | ⟨h1, -⟩ | ⟨h1, -⟩ | ⟨h1, -⟩ | ⟨h1, -⟩ | ⟨h1, -⟩
            · omega
            · have := h237 _ gr.in.1; omega
            all_goals omega
          rw [if_neg hr1, if_neg hr1] at pr
          rw [u2 g, ls_perm (j_al_perm pl pr)]
        · obtain ⟨u1, u2⟩ := hal2 q
          rw [e15]
          exact ⟨u1, fun g => by rw [u2 g, ls_perm pn]⟩
        · rw [hz3, ls_perm pn]; show 0 = _; omega
      refine u282_4 ⟨I3.rn hn, ?_⟩
      rw [I3.lft hn, I3.dlt hlA]
      refine ⟨I3.rn hlA, I3.rb (I3.g12 hlA), k_bsize (I3.bag (I3.g12 hlA)) ⟨fun _ => b5, fun z => ⟨I3.rn hn, ?_⟩⟩⟩
      have hl0 : E3 (n_left (gX G) n + 12) = [] := List.length_eq_zero_iff.mp (by omega)
      rw [I3.rgt hn]
      refine ⟨fun q => b6 hl0 (fun u => absurd q u), fun q => ⟨I3.rn hn, ?_⟩⟩
      obtain ⟨τr, Nr, gr, hrl⟩ := hrg q
      have hrA := gr.in.1
      rw [I3.dlt hrA]
      exact ⟨I3.rn hrA, I3.rb (I3.g12 hrA), k_bsize (I3.bag (I3.g12 hrA)) ⟨fun z2 => b6 hl0 (fun _ => List.length_eq_zero_iff.mp (by omega)), fun _ => b5⟩⟩
    have ea2 : ∀ a, (a ≤ lo + 20 ∨ n_left (gX G) n + 20 < a) → a ≠ n + 12 → E2 a = E a := fun a h1 h2 => (fr2.1 a h1).trans (ea1 a h2)
    refine ⟨fun q => ?_, fun q => ⟨I2.rn hn, ?_⟩⟩
    · refine last c2 E2 P2 o2 I2 (b1.oo.tr x2) (fun a ha => ea2 a (by omega) (by omega)) (by rw [fr2.1 _ (by omega)]; exact hz1) (fun y hy hr => ?_) dy2 sd2 df2 (fun u => absurd q u)
      rw [fr2.2 y (by omega) (rr1 y hr)]; exact ov1 y hr
    · obtain ⟨τr, Nr, gr, hrl⟩ := hrg q
      have hrA := gr.in.1
      have hrlo := gr.in.2
      refine ⟨I2.rn hrA, ih (n_left (gX G) n) _ τr Nr (d + 2) c2 E2 P2 o2 _ gr (by omega) I2 (n_dy.fr f _ _ τr Nr gr (hdr q) (fun a h1 h2 => ea2 a (by omega) (by omega)) (fun y hy h1 h2 => ?_)) (by omega) (by rw [ea2 _ (by omega) (by omega)]; exact hB) (fun c3 E3 P3 o3 I3 x3 fr3 dy3 sd3 df3 => ?_)⟩
      · rw [fr2.2 y (by omega) (rA I1 y hy)]; exact ov1 y (rA h y hy)
      · have el12 : E3 (n_left (gX G) n + 12) = E2 (n_left (gX G) n + 12) := fr3.1 _ (by omega)
        refine last c3 E3 P3 o3 I3 ((b1.oo.tr x2).tr x3) (fun a ha => ?_) (by rw [fr3.1 _ (by omega), fr2.1 _ (by omega)]; exact hz1) (fun y hy hr => ?_) (n_dy.fr f lo _ τl Nl gl dy2 (fun a h1 h2 => fr3.1 a (by omega)) (fun y hy h1 h2 => fr3.2 y (by omega) (rA I2 y hy))) (by rw [el12]; exact sd2) (by rw [el12]; exact df2) (fun _ => ⟨dy3, sd3, df3⟩)
        · rw [fr3.1 a (by omega)]; exact ea2 a (by omega) (by omega)
        · have r2 : c_r c2 y ≠ 0 := by have := x2.1.r (a := y) rfl (rr1 y hr); rw [this]; exact rr1 y hr
          rw [fr3.2 y (by omega) r2, fr2.2 y (by omega) (rr1 y hr)]; exact ov1 y hr
end
