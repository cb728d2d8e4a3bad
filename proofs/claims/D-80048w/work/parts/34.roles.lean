set_option maxRecDepth 100000
/-! the component's world: memory by roles. field k of class C: role 40 C + k; an array of that field: 500 + 40 C + k; an object: 1000 + C -/
abbrev cs_S : Type := Int × Int × (Int → Nat) × (Int → Int) × (Nat → Int → Int → Int)
def cs_ros0 : List (List (Nat × Nat)) := [[(8, 500), (16, 503), (24, 504), (33, 505), (134, 504), (150, 504)], [], [(19, 500)], [], [(30, 503)], [(147, 505), (161, 504)], [], [], [], [(38, 503), (63, 505), (120, 504), (142, 505)], [(16, 504)], [(39, 505), (56, 505)], [], [], [], [], [], [], [], [], [], [], [], [], [(51, 505), (67, 505)], [(7, 540)], [], [], [(16, 540)], [], [(28, 540)]]
def cs_ros1 : List (List (Nat × Nat)) := [[(5, 540)], [], [(47, 540), (53, 540)], [], [], [(7, 580), (15, 582), (23, 583)], [(8, 580), (18, 580), (33, 580580), (50, 580)], [(33, 580)], [(4, 582), (15, 582), (33, 582), (48, 582), (49, 582582), (56, 582), (75, 582), (89, 583)], [], [(29, 636), (38, 638), (47, 640)], [], [(15, 636)], [], [], [], [(219, 826), (235, 827)], [(8, 638), (18, 638), (33, 638638), (49, 638), (68, 638), (77, 638)], [(146, 862), (181, 701), (205, 863), (330, 873), (470, 880), (481, 881)], [(8, 640), (18, 640), (33, 640640), (49, 640), (68, 640), (77, 640)], [], [], [], [], [], [], [], [], [(238, 705)], [], []]
def cs_ros2 : List (List (Nat × Nat)) := [[], [(123, 706)], [], [], [], [], [], [(212, 884)], [(30, 711)], [], [], [(22, 707), (35, 703)], [(8, 703), (20, 703), (32, 702)], [(98, 866), (107, 867), (116, 870), (263, 868), (296, 869), (343, 869), (369, 870), (377, 871), (385, 872)], [(6, 820), (17, 820), (44, 820), (55, 820), (63, 821), (92, 822), (150, 831), (158, 864), (208, 822), (275, 826)], [(58, 871), (72, 873), (112, 873), (118, 872), (124, 875), (226, 884), (227, 707), (257, 880), (291, 881), (298, 881), (317, 881), (426, 862), (463, 862), (464, 708), (465, 864)], [(11, 874), (17, 866), (30, 868), (60, 868), (85, 869), (100, 503), (103, 875), (114, 869), (137, 866), (174, 830), (208, 830), (216, 830), (244, 867), (267, 875), (305, 870), (311, 870), (329, 870), (352, 875)], [(8, 636), (18, 636), (35, 636636), (52, 636), (79, 636), (88, 636)], [], [], [], [(16, 702), (27, 703), (38, 701), (185, 708), (198, 708), (208, 709), (221, 708), (245, 704), (301, 709), (317, 708), (338, 709), (351, 709), (360, 709), (378, 709), (391, 708), (404, 708), (405, 708), (447, 705), (485, 705), (500, 708), (619, 708)], [(8, 702), (19, 703), (76, 830), (86, 881), (118, 710), (137, 831), (154, 880), (155, 708), (156, 708), (202, 870), (244, 874), (248, 710), (263, 866), (277, 866), (283, 831), (284, 708)], [(5, 866), (34, 830), (58, 875)], [(15, 709), (27, 708)], [(8, 711)], [(8, 701), (23, 702), (41, 701), (56, 702), (70, 708), (78, 884), (103, 710)], [], [], [], []]
def cs_ros3 : List (List (Nat × Nat)) := [[], [], [], [], [], [(8, 831)], [], [], [], [(8, 660), (17, 662), (26, 663), (35, 664), (44, 665), (53, 666)], [(8, 500660), (39, 660), (50, 660), (61, 660), (72, 660), (98, 662), (108, 662)], [(8, 663), (30, 662), (88, 662), (197, 665), (224, 662), (257, 662), (311, 664), (317, 662), (335, 666)], [(13, 660)], [], [], [(77, 660)], [(5, 662), (15, 662), (25, 664), (31, 663), (61, 663), (64, 660)], [(5, 663)], [(5, 662)], [(5, 662), (15, 666)], [(5, 665)], [(5, 664), (11, 663)], [(9, 663), (12, 660)], [(5, 662)], [(5, 664), (11, 663), (20, 664), (26, 663), (51, 663), (55, 660), (65, 663), (69, 660)], [(7, 701), (15, 702), (23, 703), (31, 704), (39, 705), (47, 706), (55, 707), (63, 708), (71, 709), (79, 710), (87, 711)], [], [], [(23, 701), (31, 702), (39, 703), (48, 704), (56, 705), (65, 707), (74, 711), (82, 708), (90, 709), (98, 710)], [(10, 701), (153, 706), (169, 710), (182, 710), (210, 702), (239, 702), (299, 702), (327, 702), (354, 703), (363, 704)], [(6, 702), (25, 703)]]
def cs_ros4 : List (List (Nat × Nat)) := [[(6, 702), (30, 703), (91, 705), (134, 701)], [(6, 702), (24, 703), (56, 701), (305, 701)], [], [], [(7, 741), (16, 742)], [(29, 741)], [], [(5, 741)], [(5, 742)], [(24, 741), (38, 742), (41, 742), (47, 742), (65, 741), (100, 741741), (121, 742742), (131, 741), (144, 742)], [(25, 741)], [(9, 741), (41, 741741), (62, 742742)], [(6, 741), (16, 742), (30, 741741), (44, 742742)], [(16, 741), (22, 742)], [(19, 741), (32, 742)], [(26, 742), (38, 741), (44, 742)], [(8, 741), (31, 741), (40, 741), (54, 742)], [(18, 742)], [], [], [], [], [], [], [], [], [], [], [], [], []]
def cs_ros5 : List (List (Nat × Nat)) := [[], [], [], [], [], [], [], [], [], [], [], [], [], [], [], [], [], [], [], [], [], [], [], [], [], [], [], [], [], [], []]
def cs_ros6 : List (List (Nat × Nat)) := [[], [], [], [], [], [], [], [], [], [], [], [], [], [], [], [], [], [], [], [], [], [], [], [], [], [], [], [], [], [], []]
def cs_ros7 : List (List (Nat × Nat)) := [[], [], [], [], [], [], [], [], [], [], [], [], [], [], [], [], [], [], [], [], [], [], [], [], [], [], [], [], [], [], []]
def cs_ros8 : List (List (Nat × Nat)) := [[], [], [(6, 820), (14, 821), (21, 822), (34, 826), (42, 827), (50, 830), (58, 831)], [], [(8, 820), (18, 820), (29, 821), (39, 822), (55, 820820), (70, 821821), (85, 822822), (115, 820), (125, 821), (135, 822)], [(30, 863830), (47, 864831)], [(12, 862), (20, 863), (28, 864), (35, 866), (43, 867), (50, 868), (57, 869), (64, 870), (71, 871), (78, 872), (85, 873), (92, 874), (99, 875), (117, 880), (125, 881), (138, 884)], [(53, 866)], [], [(48, 917), (56, 919), (64, 921), (72, 926)], [], [], [], [(13, 917)], [(13, 884919)], [(8, 827921)], [], [], [], [], [], [], [], [], [(23, 917)], [], [(58, 582)], [(78, 582), (95, 583), (151, 919)], [], [(8, 701), (40, 583), (68, 702), (82, 583)], []]
def cs_ros9 : List (List (Nat × Nat)) := [[(48, 926), (73, 926)], [(4, 926), (19, 926), (49, 926), (76, 926), (77, 926), (90, 926)], [(19, 917), (44, 917), (111, 921)], [], [], [], [], [], [(55, 926)], [], [], [], [], [], [], [], [], [], [], [], [], [], [], [], [], [], [], [], [], [], []]
def cs_ros (y : Nat) : List (Nat × Nat) := match y / 31 with
  | 0 => cs_ros0.getD (y % 31) []
  | 1 => cs_ros1.getD (y % 31) []
  | 2 => cs_ros2.getD (y % 31) []
  | 3 => cs_ros3.getD (y % 31) []
  | 4 => cs_ros4.getD (y % 31) []
  | 5 => cs_ros5.getD (y % 31) []
  | 6 => cs_ros6.getD (y % 31) []
  | 7 => cs_ros7.getD (y % 31) []
  | 8 => cs_ros8.getD (y % 31) []
  | 9 => cs_ros9.getD (y % 31) []
  | _ => []
def cs_ro (y pc : Nat) : Nat := match (cs_ros y).lookup pc with
  | some r => r
  | none => 0
def c_n (c : cs_S) : Int := c.1
def c_m (c : cs_S) : Int := c.2.1
def c_r (c : cs_S) (a : Int) : Nat := if 0 ≤ a ∧ a < c.1 then c.2.2.1 a else 0
def c_l (c : cs_S) (a : Int) : Int := c.2.2.2.1 a
def c_v (c : cs_S) (r : Nat) (a i : Int) : Int := c.2.2.2.2 r a i
def c_u (c : cs_S) (r : Nat) (a i v : Int) : cs_S := (c.1, c.2.1, c.2.2.1, c.2.2.2.1, fun q b j => if q = r ∧ b = a ∧ j = i then v else c.2.2.2.2 q b j)
def co_z (ci r : Nat) : Int := am_z ci (((r - 40 * ci : Nat)) : Int)
def c_o (c : cs_S) (ci : Nat) : cs_S := (c.1 + 1, c.2.1 + (am_fn ci : Int), fun b => if b = c.1 then 1000 + ci else c.2.2.1 b, c.2.2.2.1, fun q b j => if b = c.1 then co_z ci q else c.2.2.2.2 q b j)
def c_a (c : cs_S) (r : Nat) (k z : Int) : cs_S := (c.1 + 1, c.2.1 + k, fun b => if b = c.1 then r else c.2.2.1 b, fun b => if b = c.1 then k else c.2.2.2.1 b, fun q b j => if b = c.1 then z else c.2.2.2.2 q b j)
def c_c (c : cs_S) (rs : Nat) (s sp : Int) (rd : Nat) (d dp n : Int) : cs_S := (c.1, c.2.1, c.2.2.1, c.2.2.2.1, fun q b j => if q = rd ∧ b = d ∧ dp ≤ j ∧ j < dp + n then c.2.2.2.2 rs s (sp + (j - dp)) else c.2.2.2.2 q b j)
def cs_len (c : cs_S) (a : Int) : Int := if c_r c a = 0 then -1 else if 1000 ≤ c_r c a then (am_fn (c_r c a - 1000) : Int) else c_l c a
def cs_val (c : cs_S) (a i : Int) : Int := if 1000 ≤ c_r c a then (if 0 ≤ i then c_v c (40 * (c_r c a - 1000) + i.toNat) a 0 else am_z (c_r c a - 1000) i) else c_v c (c_r c a) a i
def cs_h (c : cs_S) : lm_H := (c.1, c.2.1, cs_len c, cs_val c)
def cs_q (Q : Int → cs_S → Prop) (v : Int) (h : lm_H) : Prop := ∃ c, h = cs_h c ∧ Q v c
def cw (d y : Nat) (l : List am_I) (ls st : List Int) (c : cs_S) (Q : Int → cs_S → Prop) : Prop := lm_wp d y l ls st (cs_h c) (cs_q Q)
theorem cw.mono {d y : Nat} {l : List am_I} {ls st : List Int} {c : cs_S} {Q Q' : Int → cs_S → Prop} (k : cw d y l ls st c Q) (hq : ∀ v c', Q v c' → Q' v c') : cw d y l ls st c Q' :=
  lm_wp.mono k (fun v h' w => by obtain ⟨c', e, q⟩ := w; exact ⟨c', e, hq v c' q⟩)
theorem c_r_in {c : cs_S} {a : Int} (h : c_r c a ≠ 0) : 0 ≤ a ∧ a < c_n c := by
  unfold c_r at h
  split at h
  · rename_i w; exact w
  · exact absurd rfl h
/-- heap and state -/
theorem cs_len_o {c : cs_S} {a : Int} {ci : Nat} (h : c_r c a = 1000 + ci) : h_l (cs_h c) a = (am_fn ci : Int) := by
  show cs_len c a = _
  unfold cs_len
  rw [h, if_neg (by omega), if_pos (by omega)]
  congr 2
  omega
theorem cs_len_a {c : cs_S} {a : Int} {r : Nat} (h : c_r c a = r) (h0 : r ≠ 0) (h1 : r < 1000) : h_l (cs_h c) a = c_l c a := by
  show cs_len c a = _
  unfold cs_len
  rw [h, if_neg h0, if_neg (by omega)]
theorem cs_val_o {c : cs_S} {a : Int} {ci : Nat} (h : c_r c a = 1000 + ci) (k : Nat) : h_v (cs_h c) a (k : Int) = c_v c (40 * ci + k) a 0 := by
  show cs_val c a k = _
  unfold cs_val
  rw [h, if_pos (by omega), if_pos (by omega)]
  congr 1
  omega
theorem cs_val_a {c : cs_S} {a : Int} {r : Nat} (h : c_r c a = r) (h1 : r < 1000) (i : Int) : h_v (cs_h c) a i = c_v c r a i := by
  show cs_val c a i = _
  unfold cs_val
  rw [h, if_neg (by omega)]
theorem cv_o {c : cs_S} {a : Int} {ci : Nat} (h : c_r c a = 1000 + ci) (j : Int) : cs_val c a j = if 0 ≤ j then c_v c (40 * ci + j.toNat) a 0 else am_z ci j := by
  unfold cs_val
  rw [if_pos (by omega)]
  have : c_r c a - 1000 = ci := by omega
  rw [this]
theorem cv_a {c : cs_S} {a : Int} {r : Nat} (h : c_r c a = r) (h1 : r < 1000) (j : Int) : cs_val c a j = c_v c r a j := by
  unfold cs_val
  rw [if_neg (by omega), h]
theorem cl_o {c : cs_S} {a : Int} {ci : Nat} (h : c_r c a = 1000 + ci) : cs_len c a = (am_fn ci : Int) := cs_len_o h
theorem cl_a {c : cs_S} {a : Int} {r : Nat} (h : c_r c a = r) (h0 : r ≠ 0) (h1 : r < 1000) : cs_len c a = c_l c a := cs_len_a h h0 h1
theorem cl_0 {c : cs_S} {a : Int} (h : c_r c a = 0) : cs_len c a = -1 := by unfold cs_len; rw [if_pos h]
theorem c_kind (c : cs_S) (a : Int) : (∃ ci, c_r c a = 1000 + ci) ∨ c_r c a < 1000 := by
  by_cases h : 1000 ≤ c_r c a
  · exact Or.inl ⟨c_r c a - 1000, by omega⟩
  · exact Or.inr (by omega)
theorem c_r_u (c : cs_S) (r : Nat) (a i v b : Int) : c_r (c_u c r a i v) b = c_r c b := rfl
theorem c_v_u (c : cs_S) (r : Nat) (a i v : Int) (q : Nat) (b j : Int) : c_v (c_u c r a i v) q b j = if q = r ∧ b = a ∧ j = i then v else c_v c q b j := rfl
theorem c_v_c (c : cs_S) (rs : Nat) (s sp : Int) (rd : Nat) (d dp n : Int) (q : Nat) (b j : Int) : c_v (c_c c rs s sp rd d dp n) q b j = if q = rd ∧ b = d ∧ dp ≤ j ∧ j < dp + n then c_v c rs s (sp + (j - dp)) else c_v c q b j := rfl
theorem c_v_o (c : cs_S) (ci : Nat) (q : Nat) (b j : Int) : c_v (c_o c ci) q b j = if b = c_n c then co_z ci q else c_v c q b j := rfl
theorem c_v_a (c : cs_S) (r : Nat) (k z : Int) (q : Nat) (b j : Int) : c_v (c_a c r k z) q b j = if b = c_n c then z else c_v c q b j := rfl
theorem c_l_a (c : cs_S) (r : Nat) (k z b : Int) : c_l (c_a c r k z) b = if b = c_n c then k else c_l c b := rfl
theorem cs_ext {c : cs_S} {v : Int → Int → Int} (h : ∀ b j, v b j = cs_val c b j) : ((c.1, c.2.1, cs_len c, v) : lm_H) = cs_h c := by
  have : v = cs_val c := by funext b j; exact h b j
  rw [this]
  rfl
theorem cs_put {c : cs_S} {a : Int} {ci : Nat} (h : c_r c a = 1000 + ci) (k : Nat) (v : Int) : h_s (cs_h c) a (k : Int) v = cs_h (c_u c (40 * ci + k) a 0 v) := by
  refine cs_ext (c := c_u c (40 * ci + k) a 0 v) (fun b j => ?_)
  show (if b = a ∧ j = (k : Int) then v else cs_val c b j) = _
  rcases c_kind c b with ⟨ci', e⟩ | e
  · have e' : c_r (c_u c (40 * ci + k) a 0 v) b = 1000 + ci' := e
    rw [cv_o e, cv_o e', c_v_u]
    by_cases w : b = a ∧ j = (k : Int)
    · obtain ⟨w1, w2⟩ := w
      subst w1
      have : ci' = ci := by omega
      subst this
      rw [if_pos ⟨rfl, w2⟩, if_pos (by omega), if_pos ⟨by omega, rfl, rfl⟩]
    · rw [if_neg w]
      by_cases j0 : 0 ≤ j
      · rw [if_pos j0, if_pos j0, if_neg]
        rintro ⟨w1, w2, -⟩
        subst w2
        have : ci' = ci := by omega
        subst this
        exact w ⟨rfl, by omega⟩
      · rw [if_neg j0, if_neg j0]
  · have e' : c_r (c_u c (40 * ci + k) a 0 v) b = c_r c b := rfl
    have hne : b ≠ a := by intro w; subst w; omega
    rw [cv_a rfl e, cv_a e' e, if_neg (fun w => hne w.1), c_v_u, if_neg (fun w => hne w.2.1)]
theorem cs_sto {c : cs_S} {a : Int} {r : Nat} (h : c_r c a = r) (h1 : r < 1000) (i v : Int) : h_s (cs_h c) a i v = cs_h (c_u c r a i v) := by
  refine cs_ext (c := c_u c r a i v) (fun b j => ?_)
  show (if b = a ∧ j = i then v else cs_val c b j) = _
  rcases c_kind c b with ⟨ci', e⟩ | e
  · have e' : c_r (c_u c r a i v) b = 1000 + ci' := e
    have hne : b ≠ a := by intro w; subst w; omega
    rw [cv_o e, cv_o e', c_v_u, if_neg (fun w => hne w.1), if_neg (c := _ ∧ _) (fun w => hne w.2.1)]
  · have e' : c_r (c_u c r a i v) b = c_r c b := rfl
    rw [cv_a rfl e, cv_a e' e, c_v_u]
    by_cases w : b = a ∧ j = i
    · rw [if_pos w, if_pos ⟨by rw [w.1]; exact h, w.1, w.2⟩]
    · rw [if_neg w, if_neg (fun w2 => w w2.2)]
theorem cs_cpy {c : cs_S} {s t : Int} {rs rd : Nat} (hs : c_r c s = rs) (h0 : rs < 1000) (hd : c_r c t = rd) (h1 : rd < 1000) (sp dp n : Int) : h_c (cs_h c) s sp t dp n = cs_h (c_c c rs s sp rd t dp n) := by
  refine cs_ext (c := c_c c rs s sp rd t dp n) (fun b j => ?_)
  show (if b = t ∧ dp ≤ j ∧ j < dp + n then cs_val c s (sp + (j - dp)) else cs_val c b j) = _
  rw [cv_a hs h0]
  rcases c_kind c b with ⟨ci', e⟩ | e
  · have e' : c_r (c_c c rs s sp rd t dp n) b = 1000 + ci' := e
    have hne : b ≠ t := by intro w; subst w; omega
    rw [cv_o e, cv_o e', c_v_c, if_neg (fun w => hne w.1), if_neg (c := _ ∧ _) (fun w => hne w.2.1)]
  · have e' : c_r (c_c c rs s sp rd t dp n) b = c_r c b := rfl
    rw [cv_a rfl e, cv_a e' e, c_v_c]
    by_cases w : b = t ∧ dp ≤ j ∧ j < dp + n
    · rw [if_pos w, if_pos ⟨by rw [w.1]; exact hd, w⟩]
    · rw [if_neg w, if_neg (fun w2 => w w2.2)]
theorem c_r_o (c : cs_S) (h : 0 ≤ c.1) (ci : Nat) (b : Int) : c_r (c_o c ci) b = if b = c.1 then 1000 + ci else c_r c b := by
  show (if 0 ≤ b ∧ b < c.1 + 1 then (if b = c.1 then 1000 + ci else c.2.2.1 b) else 0) = if b = c.1 then 1000 + ci else (if 0 ≤ b ∧ b < c.1 then c.2.2.1 b else 0)
  by_cases e : b = c.1
  · rw [if_pos e, if_pos (by omega), if_pos e]
  · rw [if_neg e, if_neg e]
    by_cases e2 : 0 ≤ b ∧ b < c.1
    · rw [if_pos e2, if_pos (by omega)]
    · rw [if_neg e2, if_neg (by omega)]
theorem c_r_a (c : cs_S) (h : 0 ≤ c.1) (r : Nat) (k z b : Int) : c_r (c_a c r k z) b = if b = c.1 then r else c_r c b := by
  show (if 0 ≤ b ∧ b < c.1 + 1 then (if b = c.1 then r else c.2.2.1 b) else 0) = if b = c.1 then r else (if 0 ≤ b ∧ b < c.1 then c.2.2.1 b else 0)
  by_cases e : b = c.1
  · rw [if_pos e, if_pos (by omega), if_pos e]
  · rw [if_neg e, if_neg e]
    by_cases e2 : 0 ≤ b ∧ b < c.1
    · rw [if_pos e2, if_pos (by omega)]
    · rw [if_neg e2, if_neg (by omega)]
theorem cs_ext2 {c : cs_S} {l : Int → Int} {v : Int → Int → Int} (hl : ∀ b, l b = cs_len c b) (h : ∀ b j, v b j = cs_val c b j) : ((c.1, c.2.1, l, v) : lm_H) = cs_h c := by
  have e1 : v = cs_val c := by funext b j; exact h b j
  have e2 : l = cs_len c := by funext b; exact hl b
  rw [e1, e2]
  rfl
theorem cs_new {c : cs_S} (h : 0 ≤ c.1) (ci : Nat) : h_w (cs_h c) (am_fn ci) (am_z ci) = cs_h (c_o c ci) := by
  refine cs_ext2 (c := c_o c ci) (fun b => ?_) (fun b j => ?_)
  · show (if b = c.1 then (am_fn ci : Int) else cs_len c b) = _
    by_cases e : b = c.1
    · rw [if_pos e, cl_o (ci := ci) (by rw [c_r_o c h, if_pos e])]
    · rw [if_neg e]
      have e' : c_r (c_o c ci) b = c_r c b := by rw [c_r_o c h, if_neg e]
      unfold cs_len
      rw [e']
      rfl
  · show (if b = c.1 then am_z ci j else cs_val c b j) = _
    by_cases e : b = c.1
    · rw [if_pos e, cv_o (ci := ci) (by rw [c_r_o c h, if_pos e])]
      by_cases j0 : 0 ≤ j
      · rw [if_pos j0, c_v_o]
        refine Eq.trans ?_ (if_pos e).symm
        unfold co_z
        congr 1
        omega
      · rw [if_neg j0]
    · rw [if_neg e]
      have e' : c_r (c_o c ci) b = c_r c b := by rw [c_r_o c h, if_neg e]
      unfold cs_val
      have e3 : ∀ q i, c_v (c_o c ci) q b i = c_v c q b i := fun q i => if_neg e
      rw [e', e3, e3]
theorem cs_arr {c : cs_S} (h : 0 ≤ c.1) {r : Nat} (h0 : r ≠ 0) (h1 : r < 1000) (k z : Int) : h_w (cs_h c) k (fun _ => z) = cs_h (c_a c r k z) := by
  refine cs_ext2 (c := c_a c r k z) (fun b => ?_) (fun b j => ?_)
  · show (if b = c.1 then k else cs_len c b) = _
    by_cases e : b = c.1
    · rw [if_pos e, cl_a (r := r) (by rw [c_r_a c h, if_pos e]) h0 h1, c_l_a]
      exact (if_pos e).symm
    · rw [if_neg e]
      have e' : c_r (c_a c r k z) b = c_r c b := by rw [c_r_a c h, if_neg e]
      have e2 : c_l (c_a c r k z) b = c_l c b := by rw [c_l_a]; exact if_neg e
      unfold cs_len
      rw [e', e2]
  · show (if b = c.1 then z else cs_val c b j) = _
    by_cases e : b = c.1
    · rw [if_pos e, cv_a (r := r) (by rw [c_r_a c h, if_pos e]) h1, c_v_a]
      exact (if_pos e).symm
    · rw [if_neg e]
      have e' : c_r (c_a c r k z) b = c_r c b := by rw [c_r_a c h, if_neg e]
      unfold cs_val
      have e3 : ∀ q i, c_v (c_a c r k z) q b i = c_v c q b i := fun q i => if_neg e
      rw [e', e3, e3]
