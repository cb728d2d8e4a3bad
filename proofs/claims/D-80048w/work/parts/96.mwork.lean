set_option maxRecDepth 100000
/-! the model: what a query's tables mean, node by node; its relations are worked as NL says -/
def nv (s : ms_S) (T : xt) (sl ct : Nat → Int) (NE : Nat) (X : nt) (f : Nat) (n : Int) (τ : List Int) (N : Nat) : Prop := n_wt T sl ct NE X (fun st => (s 5 st).toNat) f n τ N ∧ t_ok τ ∧ N ≤ 600
def x_v0 (T : xt) (sl ct : Nat → Int) (NE : Nat) (τ : List Int) (e : Nat) : Prop := e < NE ∧ ∃ t, x_wt T sl (cz ct (p0 T)) τ 121 e t
def x_c0 (T : xt) (sl ct : Nat → Int) (NE : Nat) (τ : List Int) (e : Nat) : Prop := e < NE ∧ ∃ t, x_wt T sl (cz ct (p0 T)) τ 121 e t ∧ t ≠ 1
abbrev mPt : Type := Nat → Nat → Int → List Int → Nat → Nat → Nat → Prop
abbrev mPs : Type := Nat → Int → List Int → Nat → Nat → Nat → Prop
section
variable (s : ms_S) (T : xt) (sl ct : Nat → Int) (NE : Nat) (X : nt)
def mo (P : mPt) (o : Nat) (f : Nat) (n : Int) (τ : List Int) (N C R : Nat) : Prop := o < 180 ∧
  ((∃ st f' : Nat, s 49 o = st ∧ st < 6 ∧ (st : Int) < s 4 0 ∧ f = f' + 1 ∧ n_kind X n = 0 ∧ n_strm X n = st ∧ n_keep X n = keep_of s o ∧ (s 51 o ≠ 0 → 0 ≤ s 52 o ∧ s 52 o ≤ 9223372036854775807) ∧ τ = List.replicate ((s 5 st).toNat + 1) 1 ∧ nv s T sl ct NE X f n τ N ∧ C = 8 * ((s 5 st).toNat + 1) ∧ R = 1)
  ∨ (s 49 o = -1 ∧ ∃ q : Nat, s 53 o = q ∧ P q f n τ N C R))
def mj (P : mPt) (sel : Nat) : Nat → Nat → Int → List Int → Nat → Nat → Nat → Prop
  | 0, f, n, τ, N, C, R => mo s T sl ct NE X P (3 * sel) f n τ N C R
  | k + 1, f, n, τ, N, C, R => ∃ (f' : Nat) (τl τr : List Int) (Nl Nr Cl Cr Rl Rr e : Nat), f = f' + 1 ∧ n_kind X n = 1 ∧ mj P sel k f' (n_left X n) τl Nl Cl Rl ∧ mo s T sl ct NE X P (3 * sel + (k + 1)) f' (n_right X n) τr Nr Cr Rr ∧ τ = τl ++ τr ∧ N = Nl * Nr ∧ s 58 ((3 * sel + (k + 1) : Nat) : Int) = e ∧ n_cond X n = e ∧ x_c0 T sl ct NE τ e ∧ s 56 ((3 * sel + (k + 1) : Nat) : Int) = (if decide (n_isL X n ≠ 0) = true then 1 else 0) ∧ n_wide X n = τr.length ∧ nv s T sl ct NE X f n τ N ∧ C = Cl + Cr + (Nl * Nr + 1) * (τl.length + τr.length) ∧ R = Rl + Rr + 1
def mf (P : mPs) (e : Int) (f : Nat) (n : Int) (τ : List Int) (N C R : Nat) : Prop := (e = -1 ∧ P f n τ N C R) ∨ (∃ f' C' R' e' : Nat, e = e' ∧ f = f' + 1 ∧ n_kind X n = 2 ∧ n_cond X n = e' ∧ x_c0 T sl ct NE τ e' ∧ P f' (n_left X n) τ N C' R' ∧ nv s T sl ct NE X f n τ N ∧ C = C' + N * τ.length ∧ R = R' + 1)
def mpr (P : mPs) (sel : Nat) (f : Nat) (n : Int) (τ : List Int) (N C R : Nat) : Prop :=
  (s 40 sel = -1 ∧ s 42 sel ≤ 0 ∧ ∃ (f' : Nat) (τl : List Int) (C' R' : Nat), f = f' + 1 ∧ n_kind X n = 3 ∧ mf s T sl ct NE X P (s 41 sel) f' (n_left X n) τl N C' R' ∧ (n_list X n).length ≤ 8 ∧ s 36 sel = (n_list X n).length ∧ mItems s 44 (8 * sel) (n_list X n) ∧ (∀ e ∈ n_list X n, x_v0 T sl ct NE τl e) ∧ τ.length = (n_list X n).length ∧ nv s T sl ct NE X f n τ N ∧ C = C' + N * (n_list X n).length ∧ R = R' + 1)
  ∨ (¬ (s 40 sel = -1 ∧ s 42 sel ≤ 0) ∧ ∃ (f' : Nat) (ng : Int) (τl τg : List Int) (C' R' : Nat) (hv : Option Nat), n_kind X n = 3 ∧ ((hv = none ∧ f = f' + 2 ∧ n_left X n = ng) ∨ (∃ h : Nat, hv = some h ∧ f = f' + 3 ∧ n_kind X (n_left X n) = 2 ∧ n_cond X (n_left X n) = h ∧ n_left X (n_left X n) = ng)) ∧ n_kind X ng = 4 ∧ P f' (n_left X ng) τl N C' R' ∧ nv s T sl ct NE X (f' + 1) ng τg N ∧ nv s T sl ct NE X f n τ N
    ∧ s 39 sel = (n_list X ng).length ∧ (n_list X ng).length ≤ 8 ∧ mItems s 47 (8 * sel) (n_list X ng) ∧ (∀ e ∈ n_list X ng, x_v0 T sl ct NE τl e) ∧ (s 40 sel = -1 ↔ (n_list X ng).length = 0)
    ∧ s 36 sel = (n_list X n).length ∧ (n_list X n).length ≤ 8 ∧ mItems s 44 (8 * sel) (n_list X n) ∧ (∀ e ∈ n_list X n, e < NE ∧ ∃ t, x_wt T sl (cz ct (pg T sl (n_list X ng).length (n_aggs X ng))) τg 121 e t)
    ∧ s 41 sel = hv_n hv ∧ (∀ h, hv = some h → h < NE ∧ ∃ t, x_wt T sl (cz ct (pg T sl (n_list X ng).length (n_aggs X ng))) τg 121 h t ∧ t ≠ 1) ∧ (∀ e ∈ n_aggs X ng, e < NE ∧ x_wag T sl (cz ct (p0 T)) τl e) ∧ τ.length = (n_list X n).length
    ∧ C = C' + ((N + 1) * (n_list X ng).length + (N + 1) * (n_list X n).length) ∧ R = R' + 2)
def msl (P : mPt) (sel : Nat) (f : Nat) (n : Int) (τ : List Int) (N C R : Nat) : Prop := sel < 60 ∧ 1 ≤ s 37 sel ∧ s 37 sel ≤ 3 ∧
  ((s 35 sel = -1 ∧ mpr s T sl ct NE X (mf s T sl ct NE X (mj s T sl ct NE X P sel (s 37 sel - 1).toNat) (s 38 sel)) sel f n τ N C R)
  ∨ (s 35 sel ≠ -1 ∧ ∃ f' C' R', f = f' + 1 ∧ n_kind X n = 5 ∧ mpr s T sl ct NE X (mf s T sl ct NE X (mj s T sl ct NE X P sel (s 37 sel - 1).toNat) (s 38 sel)) sel f' (n_left X n) τ N C' R' ∧ nv s T sl ct NE X f n τ N ∧ C = C' + N * τ.length ∧ R = R' + 1))
def mc (P : mPt) (q : Nat) : Nat → Nat → Int → List Int → Nat → Nat → Nat → Prop
  | 0, f, n, τ, N, C, R => ∃ sel : Nat, s 61 (5 * q) = sel ∧ msl s T sl ct NE X P sel f n τ N C R
  | k + 1, f, n, τ, N, C, R => ∃ (sel f' Nl Nr Cl Cr Rl Rr : Nat), s 61 (5 * q + (k + 1 : Nat)) = sel ∧ f = f' + 1 ∧ n_kind X n = 5 + s 62 (5 * q + (k + 1 : Nat)) ∧ 1 ≤ s 62 (5 * q + (k + 1 : Nat)) ∧ s 62 (5 * q + (k + 1 : Nat)) ≤ 4 ∧ mc P q k f' (n_left X n) τ Nl Cl Rl ∧ msl s T sl ct NE X P sel f' (n_right X n) τ Nr Cr Rr ∧ nv s T sl ct NE X f n τ N ∧ C = Cl + Cr + (Nl + Nr) * τ.length ∧ R = Rl + Rr + 1 ∧ Nl + Nr ≤ 600
def mqy (P : mPt) (q : Nat) (f : Nat) (n : Int) (τ : List Int) (N C R : Nat) : Prop := q < 60 ∧ 1 ≤ s 60 q ∧ s 60 q ≤ 5 ∧
  ((s 65 q = -1 ∧ mc s T sl ct NE X P q (s 60 q - 1).toNat f n τ N C R)
  ∨ (s 65 q ≠ -1 ∧ ∃ f' C' R' : Nat, f = f' + 1 ∧ n_kind X n = 10 ∧ mc s T sl ct NE X P q (s 60 q - 1).toNat f' (n_left X n) τ N C' R' ∧ s 64 q = (n_list X n).length ∧ (n_list X n).length ≤ 8 ∧ mItems s 66 (8 * q) (n_list X n) ∧ (n_down X n).length = (n_list X n).length ∧ mDowns s 67 (8 * q) (n_down X n) ∧ s 68 q = n_most X n ∧ 0 ≤ n_most X n ∧ n_most X n ≤ 100 ∧ (∀ e ∈ n_list X n, x_v0 T sl ct NE τ e) ∧ nv s T sl ct NE X f n τ N ∧ C = C' + (N * (n_list X n).length + N * τ.length) ∧ R = R' + 2))
def mq : Nat → Nat → Nat → Int → List Int → Nat → Nat → Nat → Prop
  | 0, _, _, _, _, _, _, _ => False
  | g + 1, q, f, n, τ, N, C, R => mqy s T sl ct NE X (fun q f n τ N C R => mq g q f n τ N C R) q f n τ N C R
def mV (P : mPs) : Prop := ∀ f n τ N C R, P f n τ N C R → nv s T sl ct NE X f n τ N
end
section
variable {s : ms_S} {T : xt} {sl ct : Nat → Int} {NE : Nat} {X : nt} {P : mPt} {P0 : mPs}
theorem mo.v (h : ∀ q, mV s T sl ct NE X (P q)) (o : Nat) : mV s T sl ct NE X (mo s T sl ct NE X P o) := by
  intro f n τ N C R hm
  rcases hm.2 with ⟨st, f', h1, h2, h3, h4, h5, h6, h7, h8, h9, h10, -⟩ | ⟨-, q, -, hP⟩
  · exact h10
  · exact h q f n τ N C R hP
theorem mj.v (h : ∀ q, mV s T sl ct NE X (P q)) (sel k : Nat) : mV s T sl ct NE X (mj s T sl ct NE X P sel k) := by
  intro f n τ N C R hm
  cases k with
  | zero => exact mo.v h _ f n τ N C R hm
  | succ k => obtain ⟨f', τl, τr, Nl, Nr, Cl, Cr, Rl, Rr, e, -, -, -, -, -, -, -, -, -, -, -, hv, -⟩ := hm; exact hv
theorem mf.v (h : mV s T sl ct NE X P0) (e : Int) : mV s T sl ct NE X (mf s T sl ct NE X P0 e) := by
  intro f n τ N C R hm
  rcases hm with ⟨-, hP⟩ | ⟨f', C', R', e', -, -, -, -, -, -, hv, -⟩
  · exact h f n τ N C R hP
  · exact hv
theorem mpr.v (sel : Nat) : mV s T sl ct NE X (mpr s T sl ct NE X P0 sel) := by
  intro f n τ N C R hm
  rcases hm with ⟨-, -, f', τl, C', R', -, -, -, -, -, -, -, -, hv, -⟩ | ⟨-, f', ng, τl, τg, C', R', hv, -, -, -, -, -, hv, -⟩
  · exact hv
  · exact hv
theorem msl.v (sel : Nat) : mV s T sl ct NE X (msl s T sl ct NE X P sel) := by
  intro f n τ N C R hm
  rcases hm.2.2.2 with ⟨-, h⟩ | ⟨-, f', C', R', -, -, -, hv, -⟩
  · exact mpr.v sel f n τ N C R h
  · exact hv
theorem mc.v (q k : Nat) : mV s T sl ct NE X (mc s T sl ct NE X P q k) := by
  intro f n τ N C R hm
  cases k with
  | zero => obtain ⟨sel, -, h⟩ := hm; exact msl.v sel f n τ N C R h
  | succ k => obtain ⟨sel, f', Nl, Nr, Cl, Cr, Rl, Rr, -, -, -, -, -, -, -, hv, -⟩ := hm; exact hv
theorem mqy.v (q : Nat) : mV s T sl ct NE X (mqy s T sl ct NE X P q) := by
  intro f n τ N C R hm
  rcases hm.2.2.2 with ⟨-, h⟩ | ⟨-, f', C', R', -, -, -, -, -, -, -, -, -, -, -, -, hv, -⟩
  · exact mc.v q _ f n τ N C R h
  · exact hv
theorem mq.v (g q : Nat) : mV s T sl ct NE X (fun f n τ N C R => mq s T sl ct NE X g q f n τ N C R) := by
  cases g with
  | zero => intro f n τ N C R h; exact h.elim
  | succ g => exact mqy.v q
/-! what is worked -/
theorem ms_u_id {s : ms_S} {f : Nat} {i v : Int} (h : s f i = v) : ms_u s f i v = s := by
  funext g j
  unfold ms_u
  split
  · rename_i c; obtain ⟨rfl, rfl⟩ := c; exact h.symm
  · rfl
def mZ (s s1 : ms_S) : Prop := (∀ (q : Nat) (j : Int), q < 85 → s1 q j = s q j) ∧ s1 97 0 = 0 ∧ 0 ≤ s1 91 0 ∧ 0 ≤ s1 87 0
variable {s1 s2 s3 : ms_S} {r r2 : Int} {w w2 : Nat} {L L2 : List rwt} {C C2 R R2 : Nat}
theorem mQ.z (h : mQ s1 s2 r w L C R) (hz : mZ s s1) : mZ s s2 := ⟨fun q j hq => (h.2.1 q j (by omega)).trans (hz.1 q j hq), h.2.2.1, by have := h.2.2.2.2.2.1; have := hz.2.2.1; omega, by have := h.2.2.2.1; have := hz.2.2.2; omega⟩
theorem mQ.tr (h : mQ s1 s2 r w L C R) (h2 : mQ s2 s3 r2 w2 L2 C2 R2) : mQ s1 s3 r2 w2 L2 (C + C2) (R + R2) := by
  obtain ⟨a1, a2, a3, a4, a5, a6, a7⟩ := h
  obtain ⟨b1, b2, b3, b4, b5, b6, b7⟩ := h2
  exact ⟨b1, a2.tr (b2.le a4 a6), b3, by omega, by omega, by omega, by omega⟩
theorem mQ.old (h : mQ s1 s2 r w L C R) (hR : mR s1 r2 w2 L2) : mR s2 r2 w2 L2 := hR.F h.2.1 h.2.2.2.2.2.1 h.1.1.2.2.1 h.2.2.2.1 h.1.1.2.2.2.2.2.2.2.2.2
theorem mQ.le (h : mQ s1 s2 r w L C R) (hC : C ≤ C2) (hR : R ≤ R2) : mQ s1 s2 r w L C2 R2 := ⟨h.1, h.2.1, h.2.2.1, h.2.2.2.1, by have := h.2.2.2.2.1; omega, h.2.2.2.2.2.1, by have := h.2.2.2.2.2.2; omega⟩
/-- a call that works a relation as told -/
def mK (s : ms_S) (T : xt) (sl : Nat → Int) (X : nt) (D0 : Nat) (run : Nat → ms_S → (Int → ms_S → Prop) → Prop) (P : mPs) : Prop := ∀ (f : Nat) (n : Int) (τ : List Int) (N C R : Nat), P f n τ N C R → ∀ (s1 : ms_S) (D : Nat) (Q : Int → ms_S → Prop), mZ s s1 → s1 91 0 + R < 400 → s1 87 0 + C ≤ 400000 → D0 ≤ D → (∀ r' s', mQ s1 s' r' τ.length (NL T sl X (ms_W s) f n) C R → Q r' s') → run D s1 Q
theorem NL_nv {f : Nat} {n : Int} {τ : List Int} {N : Nat} (hT : x_T64 T) (hW : nW_ok (fun st => (s 5 st).toNat) (ms_W s)) (h : nv s T sl ct NE X f n τ N) : (NL T sl X (ms_W s) f n).length ≤ N ∧ ∀ r ∈ NL T sl X (ms_W s) f n, rg τ r := NL_ok hT hW f n τ N (by have := h.2.2; omega) h.1
theorem mo.work (hok : ms_ok s) (hs6 : s 4 0 ≤ 6) {D0 : Nat} (hD : 5 ≤ D0) (hP : ∀ q : Nat, mK s T sl X D0 (fun D s1 Q => md_workQuery D q s1 Q) (P q)) (o : Nat) : mK s T sl X (D0 + 1) (fun D s1 Q => md_workSource D o s1 Q) (mo s T sl ct NE X P o) := by
  intro f n τ N C R hm s1 D Q hz hR hU hD1 kk
  obtain ⟨ho, hm⟩ := hm
  obtain ⟨D, rfl⟩ : ∃ D', D = D' + 1 := ⟨D - 1, by omega⟩
  have hzz := hz.2
  rcases hm with ⟨st, f', h1, h2, h3, rfl, h5, h6, h7, h8, rfl, h10, rfl, rfl⟩ | ⟨h1, q, hq, hPq⟩
  · have hcol := hok.1 st h2 h3
    have hn : s 5 st = (((s 5 st).toNat : Nat) : Int) := by omega
    generalize (s 5 st).toNat = m at *
    rw [NL_0 h5, h6, h7] at kk
    have fS := hz.1
    have hok1 : ms_ok s1 := by
      unfold ms_ok at hok ⊢
      simp only [fS 4 _ (by omega), fS 5 _ (by omega), fS 9 _ (by omega), fS 8 _ (by omega), fS 7 _ (by omega), fS 10 _ (by omega)]
      exact hok
    refine k_stream hok1 hz.2.1 ho (st := st) (n := m) (by rw [fS _ _ (by omega)]; exact h1) h2 (by rw [fS _ _ (by omega)]; exact hn) (by omega) (by rw [fS 51 _ (by omega), fS 52 _ (by omega)]; exact h8) hz.2.2.1 (by omega) hz.2.2.2 hU (by omega) (fun r' s' hq => kk r' s' ?_)
    rw [List.length_replicate]
    have e1 : keep_of s1 o = keep_of s o := by unfold keep_of; rw [fS 51 _ (by omega), fS 52 _ (by omega)]
    have e2 : ms_pl s1 m (8 * st) (List.range 8) = ms_pl s m (8 * st) (List.range 8) := by
      unfold ms_pl ms_row
      simp only [fS 6 _ (by omega), fS 9 _ (by omega), fS 8 _ (by omega), fS 7 _ (by omega)]
    have e3 : (ms_W s).1 ((st : Int)).toNat = ms_pl s m (8 * st) (List.range 8) := by
      show ms_pl s (s 5 ((((st : Int)).toNat : Nat) : Int)).toNat (8 * ((st : Int)).toNat) (List.range 8) = _
      rw [Int.toNat_natCast, hn, Int.toNat_natCast]
    rw [e1, e2, fS 10 _ (by omega)] at hq
    rw [e3]
    exact hq
  · have fS := hz.1
    have h49 : s1 49 o = -1 := by rw [fS _ _ (by omega)]; exact h1
    have h53 : s1 53 o = q := by rw [fS _ _ (by omega)]; exact hq
    refine w154_e ⟨by omega, by omega, fun c => absurd h49 c, fun _ => ⟨by omega, by omega, ?_⟩⟩
    rw [h53]
    exact hP q f n τ N C R hPq s1 D _ hz hR hU (by omega) kk
end
