set_option maxRecDepth 100000
/-! relations of the same rows -/
/-- what stands in a node's bags, and beneath -/
def n_dy (G : nG) (c : cs_S) (E : Int → bw_L) (W : nW) : Nat → Int → Prop
  | 0, _ => False
  | f + 1, n => (∃ w, b_ok w (bw_p (E (n + 9)))) ∧ b_is (bw_p (E (n + 9))) (NL (gT G) (gsl G) (gX G) W (f + 1) n)
    ∧ (n_kind (gX G) n = 0 → 0 ≤ n_keep (gX G) n → c_v c 413 n 0 = n_old (n_keep (gX G) n) W.2)
    ∧ (n_kind (gX G) n = 1 → n_isL (gX G) n ≠ 0 → (∃ w, b_ok w (bw_p (E (n + 15)))) ∧ b_is (bw_p (E (n + 15))) (j_al (x_tr (gT G) (gsl G) (n_cond (gX G) n).toNat) (n_wide (gX G) n).toNat (NL (gT G) (gsl G) (gX G) W f (n_left (gX G) n)) (NL (gT G) (gsl G) (gX G) W f (n_right (gX G) n))))
    ∧ (n_kind (gX G) n = 10 → (∃ w, b_ok w (bw_p (E (n + 15)))) ∧ b_is (bw_p (E (n + 15))) (NL (gT G) (gsl G) (gX G) W (f + 1) n))
    ∧ (n_kind (gX G) n ≠ 0 → n_dy G c E W f (n_left (gX G) n)) ∧ (n_right (gX G) n ≠ -1 → n_dy G c E W f (n_right (gX G) n))
section
variable {W W' : nW} {G : nG} {c c' c2 : cs_S} {E E' : Int → bw_L} {P P' : List Int} {o o' o2 : Int → Int} {a b n r x lo : Int} {l m k : rwt} {U L L' R R' F F' V K : List rwt} {Q : Int → cs_S → Prop} {d w D N Nl Nr f : Nat} {τ τl τr : List Int} {t v z1 z2 s wm : Int}
theorem any_perm {p : rwt → Bool} (h : R'.Perm R) : R'.any p = R.any p := by
  rw [Bool.eq_iff_iff, List.any_eq_true, List.any_eq_true]
  exact ⟨fun ⟨y, hy, q⟩ => ⟨y, h.mem_iff.mp hy, q⟩, fun ⟨y, hy, q⟩ => ⟨y, h.mem_iff.mpr hy, q⟩⟩
theorem j_al_perm {on : rwt → Bool} (hl : L'.Perm L) (hr : R'.Perm R) : (j_al on w L' R').Perm (j_al on w L R) := by
  unfold j_al
  have : (fun a : rwt => !(R'.any (fun b => on (a ++ b)))) = fun a => !(R.any (fun b => on (a ++ b))) := by
    funext a; rw [any_perm hr]
  rw [this]
  exact (hl.filter _).map _
theorem j_rows_perm {on : rwt → Bool} {isL : Bool} (hl : L'.Perm L) (hr : R'.Perm R) : (j_rows on isL w L' R').Perm (j_rows on isL w L R) := by
  refine ls_perm_of (fun g => ?_)
  rw [j_rows_ls, j_rows_ls, j_in_ls, j_in_ls, ls_perm (g := g) (j_al_perm (w := w) (on := on) hl hr), ls_perm hl]
  congr 1
  refine ls_congr (fun a _ => ?_)
  exact ls_perm hr
theorem s_rows_perm {k : Int} (hl : L'.Perm L) (hr : R'.Perm R) : (s_rows k L' R').Perm (s_rows k L R) := by
  rw [List.perm_ext_iff_of_nodup s_rows_nd s_rows_nd]
  intro y
  rw [s_rows_mem, s_rows_mem]
  unfold s_in
  rw [hl.mem_iff, hr.mem_iff]
theorem g_rows_perm {kf : rwt → rwt} {nk : Nat} {af : List rwt → rwt} (hp : ∀ A B : List rwt, A.Perm B → af A = af B) (hk : ∀ x, (kf x).length = nk) (hl : L'.Perm L) : (g_rows kf nk af L').Perm (g_rows kf nk af L) := by
  rw [List.perm_ext_iff_of_nodup (g_rows_nd (fun x _ => hk x)) (g_rows_nd (fun x _ => hk x))]
  intro y
  have hgo : ∀ k, (g_of kf L' k).Perm (g_of kf L k) := fun k => hl.filter _
  have hke : ∀ k, k ∈ g_keys kf nk L' ↔ k ∈ g_keys kf nk L := by
    intro k
    unfold g_keys
    split
    · exact Iff.rfl
    · rw [dd_mem, dd_mem, (hl.map kf).mem_iff]
  unfold g_rows
  rw [List.mem_map, List.mem_map]
  constructor
  · rintro ⟨k, h1, rfl⟩
    exact ⟨k, (hke k).mp h1, by rw [hp _ _ (hgo k)]⟩
  · rintro ⟨k, h1, rfl⟩
    exact ⟨k, (hke k).mpr h1, by rw [hp _ _ (hgo k)]⟩
theorem n_op_perm (hw : ∀ y ∈ L, y.length = w) (hl : L'.Perm L) (hr : R'.Perm R) : (n_op (gT G) (gsl G) (gX G) n L' R').Perm (n_op (gT G) (gsl G) (gX G) n L R) := by
  unfold n_op
  by_cases h1 : n_kind (gX G) n = 1
  · rw [if_pos h1, if_pos h1]; exact j_rows_perm hl hr
  rw [if_neg h1, if_neg h1]
  by_cases h2 : n_kind (gX G) n = 2
  · rw [if_pos h2, if_pos h2]; exact hl.filter _
  rw [if_neg h2, if_neg h2]
  by_cases h3 : n_kind (gX G) n = 3
  · rw [if_pos h3, if_pos h3]; exact hl.map _
  rw [if_neg h3, if_neg h3]
  by_cases h4 : n_kind (gX G) n = 4
  · rw [if_pos h4, if_pos h4]; exact g_rows_perm (fun A B hp => g_af_perm hp) (fun x => by unfold x_vals; rw [List.length_map]) hl
  rw [if_neg h4, if_neg h4]
  by_cases h5 : n_kind (gX G) n = 5
  · rw [if_pos h5, if_pos h5]; exact s_rows_perm hl (List.Perm.refl _)
  rw [if_neg h5, if_neg h5]
  by_cases h6 : n_kind (gX G) n = 6
  · rw [if_pos h6, if_pos h6]; exact hl.append hr
  rw [if_neg h6, if_neg h6]
  by_cases h10 : n_kind (gX G) n = 10
  · rw [if_pos h10, if_pos h10]
    have hg : o_good (o_cmp (gT G) (gsl G) ((n_list (gX G) n).zip (n_down (gX G) n))) L := o_cmp_good hw
    have hg' : o_good (o_cmp (gT G) (gsl G) ((n_list (gX G) n).zip (n_down (gX G) n))) L' := hg.sub (fun y hy => hl.mem_iff.mp hy)
    have : o_srt (o_cmp (gT G) (gsl G) ((n_list (gX G) n).zip (n_down (gX G) n))) L' = o_srt (o_cmp (gT G) (gsl G) ((n_list (gX G) n).zip (n_down (gX G) n))) L := o_srt_uniq hg (o_srt_perm.trans hl) (o_srt_sd hg')
    rw [this]
  rw [if_neg h10, if_neg h10]
  exact s_rows_perm hl hr
theorem n_ga.in (h : n_ga G f lo n τ N) : n ∈ gA G ∧ lo + 21 ≤ n := by
  cases f with
  | zero => exact h.elim
  | succ f => exact ⟨h.1, h.2.1⟩
/-- what is beneath: its places -/
theorem n_ga.ch (h : n_ga G (f + 1) lo n τ N) : (n_kind (gX G) n = 0 ∧ n_left (gX G) n = -1 ∧ n_right (gX G) n = -1) ∨ (n_kind (gX G) n ≠ 0 ∧ n_right (gX G) n = -1 ∧ n_left (gX G) n + 21 ≤ n ∧ ∃ τl Nl, n_ga G f lo (n_left (gX G) n) τl Nl) ∨ (n_kind (gX G) n ≠ 0 ∧ n_left (gX G) n + 21 ≤ n ∧ n_right (gX G) n + 21 ≤ n ∧ (∃ τl Nl, n_ga G f lo (n_left (gX G) n) τl Nl) ∧ ∃ τr Nr, n_ga G f (n_left (gX G) n) (n_right (gX G) n) τr Nr) := by
  obtain ⟨-, -, -, -, -, -, -, -, h⟩ := h
  rcases h with ⟨h0, h1, h2, -⟩ | ⟨h1, hll, hrl, -, -, -, τl, τr, Nl, Nr, gl, gr, -⟩ | ⟨h1, hrn, hll, gl, -⟩ | ⟨h1, hrn, hll, τl, gl, -⟩ | ⟨h1, hrn, hll, -, τl, σ, gl, -⟩ | ⟨h1, hrn, hll, gl⟩ | ⟨h1, hll, hrl, Nl, Nr, gl, gr, -⟩ | ⟨h1, hll, hrl, Nr, gl, gr⟩ | ⟨h1, hrn, hll, -, -, ⟨Nl, gl, -⟩, -⟩
  · exact Or.inl ⟨h0, h1, h2⟩
  · exact Or.inr (Or.inr ⟨by omega, hll, hrl, ⟨_, _, gl⟩, _, _, gr⟩)
  · exact Or.inr (Or.inl ⟨by omega, hrn, hll, _, _, gl⟩)
  · exact Or.inr (Or.inl ⟨by omega, hrn, hll, _, _, gl⟩)
  · exact Or.inr (Or.inl ⟨by omega, hrn, hll, _, _, gl⟩)
  · exact Or.inr (Or.inl ⟨by omega, hrn, hll, _, _, gl⟩)
  · exact Or.inr (Or.inr ⟨by omega, hll, hrl, ⟨_, _, gl⟩, _, _, gr⟩)
  · exact Or.inr (Or.inr ⟨by omega, hll, hrl, ⟨_, _, gl⟩, _, _, gr⟩)
  · exact Or.inr (Or.inl ⟨by omega, hrn, hll, _, _, gl⟩)
theorem n_dy.fr : ∀ (f : Nat) (lo n : Int) (τ : List Int) (N : Nat), n_ga G f lo n τ N → n_dy G c E W f n → (∀ a, lo + 20 < a → a ≤ n + 20 → E' a = E a) → (∀ y ∈ gA G, lo < y → y ≤ n → c_v c' 413 y 0 = c_v c 413 y 0) → n_dy G c' E' W f n := by
  intro f
  induction f with
  | zero => intro lo n τ N h; exact h.elim
  | succ f ih =>
    intro lo n τ N hga h hE hc
    have hlo := hga.2.1
    obtain ⟨h1, h2, h3, h4, h5, h6, h7⟩ := h
    have e9 : E' (n + 9) = E (n + 9) := hE _ (by omega) (by omega)
    have e15 : E' (n + 15) = E (n + 15) := hE _ (by omega) (by omega)
    refine ⟨by rw [e9]; exact h1, by rw [e9]; exact h2, fun q1 q2 => by rw [hc n hga.1 (by omega) (by omega)]; exact h3 q1 q2, by rw [e15]; exact h4, by rw [e15]; exact h5, fun q => ?_, fun q => ?_⟩
    · rcases hga.ch with ⟨u, -⟩ | ⟨-, -, u2, τl, Nl, u3⟩ | ⟨-, u1, u2, ⟨τl, Nl, u3⟩, -⟩
      · exact absurd u q
      · exact ih lo _ τl Nl u3 (h6 q) (fun a h1 h2 => hE a h1 (by omega)) (fun y hy h1 h2 => hc y hy h1 (by omega))
      · exact ih lo _ τl Nl u3 (h6 q) (fun a h1 h2 => hE a h1 (by omega)) (fun y hy h1 h2 => hc y hy h1 (by omega))
    · rcases hga.ch with ⟨-, -, u⟩ | ⟨-, u, -⟩ | ⟨-, u1, u2, ⟨τl, Nl, u3⟩, τr, Nr, u4⟩
      · exact absurd u q
      · exact absurd u q
      · have hl := u3.in.2
        exact ih _ _ τr Nr u4 (h7 q) (fun a h1 h2 => hE a (by omega) (by omega)) (fun y hy h1 h2 => hc y hy (by omega) (by omega))
theorem n_ga.NL : ∀ (f : Nat) (lo n : Int) (τ : List Int) (N : Nat), x_T64 (gT G) → nW_ok (gco G) W → n_ga G f lo n τ N → (NL (gT G) (gsl G) (gX G) W f n).length ≤ N ∧ ∀ r ∈ NL (gT G) (gsl G) (gX G) W f n, rg τ r := by
  intro f
  induction f with
  | zero => intro lo n τ N _ _ h; exact h.elim
  | succ f ih =>
    intro lo n τ N hT hW hga
    by_cases hk : n_kind (gX G) n = 0
    · rw [NL_0 hk]
      obtain ⟨-, -, -, -, -, -, -, -, h⟩ := id hga
      have h0 : 0 ≤ n_strm (gX G) n ∧ τ = List.replicate (gco G (n_strm (gX G) n).toNat + 1) 1 ∧ N = 8 := by
        rcases h with ⟨h0, -, -, h3, h4, h5, -⟩ | ⟨h1, -⟩ | ⟨h1, -⟩ | ⟨h1, -⟩ | ⟨h1, -⟩ | ⟨h1, -⟩ | ⟨h1, -⟩ | ⟨h1, -⟩ | ⟨h1, -⟩
        · exact ⟨h3, h4, h5⟩
        all_goals omega
      obtain ⟨-, rfl, rfl⟩ := h0
      refine ⟨Nat.le_trans (List.length_filter_le _ _) (hW _).1, fun r hr => ?_⟩
      have := (hW (n_strm (gX G) n).toNat).2 r (List.mem_filter.mp hr).1
      exact rg_ty1 this.1 this.2.2
    · rw [NL_op hk (Or.inr trivial)]
      exact n_op_ok hga hT hk (fun lo τl Nl g => ih lo _ τl Nl hT hW g) (fun lo τr Nr g => ih lo _ τr Nr hT hW g)
end
