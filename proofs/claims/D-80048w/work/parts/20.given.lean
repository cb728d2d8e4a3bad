set_option maxRecDepth 1000000
/-! what the Statement gives of the start -/
def am_flat : List Cond := flatC (Cond.and given_1 narrow_1)
def am_offs : List Nat := [9, 25, 233, 246, 256, 268, 277, 284, 291, 298, 306, 314, 322, 331, 336, 344, 352, 357, 364, 369, 374, 382, 390, 398, 405, 410, 415, 420, 425, 430, 435, 441, 446, 452, 457, 463, 469, 475, 482, 488, 494, 502, 510, 518, 526, 532, 541, 550, 556, 566, 575, 585, 598, 605, 614, 622, 631, 645, 656, 669, 679, 687, 695, 703, 712, 721, 731, 740, 749, 758, 967, 975, 984, 993, 1002, 1010, 1017, 1024, 1032, 1039, 1046, 1055, 1064, 1073, 1082, 1089, 1099, 1109, 1116, 1127, 1137, 1145, 1156, 1170, 1180, 1189]
def am_tm (k : Nat) : Term := Term.string (am_nm (am_sre k).1) (am_sre k).2.1
def am_scs (k : Nat) : List Cond := [Cond.exactly (am_tm k) "java/lang/String", Cond.eq (.field (am_tm k) "java/lang/String" "coder" "B") (.int 0), Cond.arrayOf (.field (am_tm k) "java/lang/String" "value" "[B") .byte, Cond.eq (.length (.field (am_tm k) "java/lang/String" "value" "[B")) (.int (Int32.ofNat (am_str k).length))] ++ (List.range (am_str k).length).map (fun j => Cond.eq (.elem (.field (am_tm k) "java/lang/String" "value" "[B") (.int (Int32.ofNat j))) (.int (Int32.ofInt ((am_str k).getD j 0))))
theorem am_sc0 : (am_flat.drop 9).take 16 = am_scs 0 := by rfl
theorem am_sc1 : (am_flat.drop 25).take 208 = am_scs 1 := by rfl
theorem am_sc2 : (am_flat.drop 233).take 13 = am_scs 2 := by rfl
theorem am_sc3 : (am_flat.drop 246).take 10 = am_scs 3 := by rfl
theorem am_sc4 : (am_flat.drop 256).take 12 = am_scs 4 := by rfl
theorem am_sc5 : (am_flat.drop 268).take 9 = am_scs 5 := by rfl
theorem am_sc6 : (am_flat.drop 277).take 7 = am_scs 6 := by rfl
theorem am_sc7 : (am_flat.drop 284).take 7 = am_scs 7 := by rfl
theorem am_sc8 : (am_flat.drop 291).take 7 = am_scs 8 := by rfl
theorem am_sc9 : (am_flat.drop 298).take 8 = am_scs 9 := by rfl
theorem am_sc10 : (am_flat.drop 306).take 8 = am_scs 10 := by rfl
theorem am_sc11 : (am_flat.drop 314).take 8 = am_scs 11 := by rfl
theorem am_sc12 : (am_flat.drop 322).take 9 = am_scs 12 := by rfl
theorem am_sc13 : (am_flat.drop 331).take 5 = am_scs 13 := by rfl
theorem am_sc14 : (am_flat.drop 336).take 8 = am_scs 14 := by rfl
theorem am_sc15 : (am_flat.drop 344).take 8 = am_scs 15 := by rfl
theorem am_sc16 : (am_flat.drop 352).take 5 = am_scs 16 := by rfl
theorem am_sc17 : (am_flat.drop 357).take 7 = am_scs 17 := by rfl
theorem am_sc18 : (am_flat.drop 364).take 5 = am_scs 18 := by rfl
theorem am_sc19 : (am_flat.drop 369).take 5 = am_scs 19 := by rfl
theorem am_sc20 : (am_flat.drop 374).take 8 = am_scs 20 := by rfl
theorem am_sc21 : (am_flat.drop 382).take 8 = am_scs 21 := by rfl
theorem am_sc22 : (am_flat.drop 390).take 8 = am_scs 22 := by rfl
theorem am_sc23 : (am_flat.drop 398).take 7 = am_scs 23 := by rfl
theorem am_sc24 : (am_flat.drop 405).take 5 = am_scs 24 := by rfl
theorem am_sc25 : (am_flat.drop 410).take 5 = am_scs 25 := by rfl
theorem am_sc26 : (am_flat.drop 415).take 5 = am_scs 26 := by rfl
theorem am_sc27 : (am_flat.drop 420).take 5 = am_scs 27 := by rfl
theorem am_sc28 : (am_flat.drop 425).take 5 = am_scs 28 := by rfl
theorem am_sc29 : (am_flat.drop 430).take 5 = am_scs 29 := by rfl
theorem am_sc30 : (am_flat.drop 435).take 6 = am_scs 30 := by rfl
theorem am_sc31 : (am_flat.drop 441).take 5 = am_scs 31 := by rfl
theorem am_sc32 : (am_flat.drop 446).take 6 = am_scs 32 := by rfl
theorem am_sc33 : (am_flat.drop 452).take 5 = am_scs 33 := by rfl
theorem am_sc34 : (am_flat.drop 457).take 6 = am_scs 34 := by rfl
theorem am_sc35 : (am_flat.drop 463).take 6 = am_scs 35 := by rfl
theorem am_sc36 : (am_flat.drop 469).take 6 = am_scs 36 := by rfl
theorem am_sc37 : (am_flat.drop 475).take 7 = am_scs 37 := by rfl
theorem am_sc38 : (am_flat.drop 482).take 6 = am_scs 38 := by rfl
theorem am_sc39 : (am_flat.drop 488).take 6 = am_scs 39 := by rfl
theorem am_sc40 : (am_flat.drop 494).take 8 = am_scs 40 := by rfl
theorem am_sc41 : (am_flat.drop 502).take 8 = am_scs 41 := by rfl
theorem am_sc42 : (am_flat.drop 510).take 8 = am_scs 42 := by rfl
theorem am_sc43 : (am_flat.drop 518).take 8 = am_scs 43 := by rfl
theorem am_sc44 : (am_flat.drop 526).take 6 = am_scs 44 := by rfl
theorem am_sc45 : (am_flat.drop 532).take 9 = am_scs 45 := by rfl
theorem am_sc46 : (am_flat.drop 541).take 9 = am_scs 46 := by rfl
theorem am_sc47 : (am_flat.drop 550).take 6 = am_scs 47 := by rfl
theorem am_sc48 : (am_flat.drop 556).take 10 = am_scs 48 := by rfl
theorem am_sc49 : (am_flat.drop 566).take 9 = am_scs 49 := by rfl
theorem am_sc50 : (am_flat.drop 575).take 10 = am_scs 50 := by rfl
theorem am_sc51 : (am_flat.drop 585).take 13 = am_scs 51 := by rfl
theorem am_sc52 : (am_flat.drop 598).take 7 = am_scs 52 := by rfl
theorem am_sc53 : (am_flat.drop 605).take 9 = am_scs 53 := by rfl
theorem am_sc54 : (am_flat.drop 614).take 8 = am_scs 54 := by rfl
theorem am_sc55 : (am_flat.drop 622).take 9 = am_scs 55 := by rfl
theorem am_sc56 : (am_flat.drop 631).take 13 = am_scs 56 := by rfl
theorem am_sc57 : (am_flat.drop 645).take 10 = am_scs 57 := by rfl
theorem am_sc58 : (am_flat.drop 656).take 12 = am_scs 58 := by rfl
theorem am_sc59 : (am_flat.drop 669).take 9 = am_scs 59 := by rfl
theorem am_sc60 : (am_flat.drop 679).take 7 = am_scs 60 := by rfl
theorem am_sc61 : (am_flat.drop 687).take 7 = am_scs 61 := by rfl
theorem am_sc62 : (am_flat.drop 695).take 7 = am_scs 62 := by rfl
theorem am_sc63 : (am_flat.drop 703).take 8 = am_scs 63 := by rfl
theorem am_sc64 : (am_flat.drop 712).take 8 = am_scs 64 := by rfl
theorem am_sc65 : (am_flat.drop 721).take 9 = am_scs 65 := by rfl
theorem am_sc66 : (am_flat.drop 731).take 8 = am_scs 66 := by rfl
theorem am_sc67 : (am_flat.drop 740).take 8 = am_scs 67 := by rfl
theorem am_sc68 : (am_flat.drop 749).take 8 = am_scs 68 := by rfl
theorem am_sc69 : (am_flat.drop 758).take 208 = am_scs 69 := by rfl
theorem am_sc70 : (am_flat.drop 967).take 7 = am_scs 70 := by rfl
theorem am_sc71 : (am_flat.drop 975).take 8 = am_scs 71 := by rfl
theorem am_sc72 : (am_flat.drop 984).take 8 = am_scs 72 := by rfl
theorem am_sc73 : (am_flat.drop 993).take 8 = am_scs 73 := by rfl
theorem am_sc74 : (am_flat.drop 1002).take 7 = am_scs 74 := by rfl
theorem am_sc75 : (am_flat.drop 1010).take 6 = am_scs 75 := by rfl
theorem am_sc76 : (am_flat.drop 1017).take 6 = am_scs 76 := by rfl
theorem am_sc77 : (am_flat.drop 1024).take 7 = am_scs 77 := by rfl
theorem am_sc78 : (am_flat.drop 1032).take 6 = am_scs 78 := by rfl
theorem am_sc79 : (am_flat.drop 1039).take 6 = am_scs 79 := by rfl
theorem am_sc80 : (am_flat.drop 1046).take 8 = am_scs 80 := by rfl
theorem am_sc81 : (am_flat.drop 1055).take 8 = am_scs 81 := by rfl
theorem am_sc82 : (am_flat.drop 1064).take 8 = am_scs 82 := by rfl
theorem am_sc83 : (am_flat.drop 1073).take 8 = am_scs 83 := by rfl
theorem am_sc84 : (am_flat.drop 1082).take 6 = am_scs 84 := by rfl
theorem am_sc85 : (am_flat.drop 1089).take 9 = am_scs 85 := by rfl
theorem am_sc86 : (am_flat.drop 1099).take 9 = am_scs 86 := by rfl
theorem am_sc87 : (am_flat.drop 1109).take 6 = am_scs 87 := by rfl
theorem am_sc88 : (am_flat.drop 1116).take 10 = am_scs 88 := by rfl
theorem am_sc89 : (am_flat.drop 1127).take 9 = am_scs 89 := by rfl
theorem am_sc90 : (am_flat.drop 1137).take 7 = am_scs 90 := by rfl
theorem am_sc91 : (am_flat.drop 1145).take 10 = am_scs 91 := by rfl
theorem am_sc92 : (am_flat.drop 1156).take 13 = am_scs 92 := by rfl
theorem am_sc93 : (am_flat.drop 1170).take 9 = am_scs 93 := by rfl
theorem am_sc94 : (am_flat.drop 1180).take 8 = am_scs 94 := by rfl
theorem am_sc95 : (am_flat.drop 1189).take 9 = am_scs 95 := by rfl
theorem am_sc (k : Nat) (h : k < 96) : ∀ w ∈ am_scs k, w ∈ am_flat := by
  match k, h with
  | 0, _ => rw [← am_sc0]; exact fun w hw => List.mem_of_mem_drop (List.mem_of_mem_take hw)
  | 1, _ => rw [← am_sc1]; exact fun w hw => List.mem_of_mem_drop (List.mem_of_mem_take hw)
  | 2, _ => rw [← am_sc2]; exact fun w hw => List.mem_of_mem_drop (List.mem_of_mem_take hw)
  | 3, _ => rw [← am_sc3]; exact fun w hw => List.mem_of_mem_drop (List.mem_of_mem_take hw)
  | 4, _ => rw [← am_sc4]; exact fun w hw => List.mem_of_mem_drop (List.mem_of_mem_take hw)
  | 5, _ => rw [← am_sc5]; exact fun w hw => List.mem_of_mem_drop (List.mem_of_mem_take hw)
  | 6, _ => rw [← am_sc6]; exact fun w hw => List.mem_of_mem_drop (List.mem_of_mem_take hw)
  | 7, _ => rw [← am_sc7]; exact fun w hw => List.mem_of_mem_drop (List.mem_of_mem_take hw)
  | 8, _ => rw [← am_sc8]; exact fun w hw => List.mem_of_mem_drop (List.mem_of_mem_take hw)
  | 9, _ => rw [← am_sc9]; exact fun w hw => List.mem_of_mem_drop (List.mem_of_mem_take hw)
  | 10, _ => rw [← am_sc10]; exact fun w hw => List.mem_of_mem_drop (List.mem_of_mem_take hw)
  | 11, _ => rw [← am_sc11]; exact fun w hw => List.mem_of_mem_drop (List.mem_of_mem_take hw)
  | 12, _ => rw [← am_sc12]; exact fun w hw => List.mem_of_mem_drop (List.mem_of_mem_take hw)
  | 13, _ => rw [← am_sc13]; exact fun w hw => List.mem_of_mem_drop (List.mem_of_mem_take hw)
  | 14, _ => rw [← am_sc14]; exact fun w hw => List.mem_of_mem_drop (List.mem_of_mem_take hw)
  | 15, _ => rw [← am_sc15]; exact fun w hw => List.mem_of_mem_drop (List.mem_of_mem_take hw)
  | 16, _ => rw [← am_sc16]; exact fun w hw => List.mem_of_mem_drop (List.mem_of_mem_take hw)
  | 17, _ => rw [← am_sc17]; exact fun w hw => List.mem_of_mem_drop (List.mem_of_mem_take hw)
  | 18, _ => rw [← am_sc18]; exact fun w hw => List.mem_of_mem_drop (List.mem_of_mem_take hw)
  | 19, _ => rw [← am_sc19]; exact fun w hw => List.mem_of_mem_drop (List.mem_of_mem_take hw)
  | 20, _ => rw [← am_sc20]; exact fun w hw => List.mem_of_mem_drop (List.mem_of_mem_take hw)
  | 21, _ => rw [← am_sc21]; exact fun w hw => List.mem_of_mem_drop (List.mem_of_mem_take hw)
  | 22, _ => rw [← am_sc22]; exact fun w hw => List.mem_of_mem_drop (List.mem_of_mem_take hw)
  | 23, _ => rw [← am_sc23]; exact fun w hw => List.mem_of_mem_drop (List.mem_of_mem_take hw)
  | 24, _ => rw [← am_sc24]; exact fun w hw => List.mem_of_mem_drop (List.mem_of_mem_take hw)
  | 25, _ => rw [← am_sc25]; exact fun w hw => List.mem_of_mem_drop (List.mem_of_mem_take hw)
  | 26, _ => rw [← am_sc26]; exact fun w hw => List.mem_of_mem_drop (List.mem_of_mem_take hw)
  | 27, _ => rw [← am_sc27]; exact fun w hw => List.mem_of_mem_drop (List.mem_of_mem_take hw)
  | 28, _ => rw [← am_sc28]; exact fun w hw => List.mem_of_mem_drop (List.mem_of_mem_take hw)
  | 29, _ => rw [← am_sc29]; exact fun w hw => List.mem_of_mem_drop (List.mem_of_mem_take hw)
  | 30, _ => rw [← am_sc30]; exact fun w hw => List.mem_of_mem_drop (List.mem_of_mem_take hw)
  | 31, _ => rw [← am_sc31]; exact fun w hw => List.mem_of_mem_drop (List.mem_of_mem_take hw)
  | 32, _ => rw [← am_sc32]; exact fun w hw => List.mem_of_mem_drop (List.mem_of_mem_take hw)
  | 33, _ => rw [← am_sc33]; exact fun w hw => List.mem_of_mem_drop (List.mem_of_mem_take hw)
  | 34, _ => rw [← am_sc34]; exact fun w hw => List.mem_of_mem_drop (List.mem_of_mem_take hw)
  | 35, _ => rw [← am_sc35]; exact fun w hw => List.mem_of_mem_drop (List.mem_of_mem_take hw)
  | 36, _ => rw [← am_sc36]; exact fun w hw => List.mem_of_mem_drop (List.mem_of_mem_take hw)
  | 37, _ => rw [← am_sc37]; exact fun w hw => List.mem_of_mem_drop (List.mem_of_mem_take hw)
  | 38, _ => rw [← am_sc38]; exact fun w hw => List.mem_of_mem_drop (List.mem_of_mem_take hw)
  | 39, _ => rw [← am_sc39]; exact fun w hw => List.mem_of_mem_drop (List.mem_of_mem_take hw)
  | 40, _ => rw [← am_sc40]; exact fun w hw => List.mem_of_mem_drop (List.mem_of_mem_take hw)
  | 41, _ => rw [← am_sc41]; exact fun w hw => List.mem_of_mem_drop (List.mem_of_mem_take hw)
  | 42, _ => rw [← am_sc42]; exact fun w hw => List.mem_of_mem_drop (List.mem_of_mem_take hw)
  | 43, _ => rw [← am_sc43]; exact fun w hw => List.mem_of_mem_drop (List.mem_of_mem_take hw)
  | 44, _ => rw [← am_sc44]; exact fun w hw => List.mem_of_mem_drop (List.mem_of_mem_take hw)
  | 45, _ => rw [← am_sc45]; exact fun w hw => List.mem_of_mem_drop (List.mem_of_mem_take hw)
  | 46, _ => rw [← am_sc46]; exact fun w hw => List.mem_of_mem_drop (List.mem_of_mem_take hw)
  | 47, _ => rw [← am_sc47]; exact fun w hw => List.mem_of_mem_drop (List.mem_of_mem_take hw)
  | 48, _ => rw [← am_sc48]; exact fun w hw => List.mem_of_mem_drop (List.mem_of_mem_take hw)
  | 49, _ => rw [← am_sc49]; exact fun w hw => List.mem_of_mem_drop (List.mem_of_mem_take hw)
  | 50, _ => rw [← am_sc50]; exact fun w hw => List.mem_of_mem_drop (List.mem_of_mem_take hw)
  | 51, _ => rw [← am_sc51]; exact fun w hw => List.mem_of_mem_drop (List.mem_of_mem_take hw)
  | 52, _ => rw [← am_sc52]; exact fun w hw => List.mem_of_mem_drop (List.mem_of_mem_take hw)
  | 53, _ => rw [← am_sc53]; exact fun w hw => List.mem_of_mem_drop (List.mem_of_mem_take hw)
  | 54, _ => rw [← am_sc54]; exact fun w hw => List.mem_of_mem_drop (List.mem_of_mem_take hw)
  | 55, _ => rw [← am_sc55]; exact fun w hw => List.mem_of_mem_drop (List.mem_of_mem_take hw)
  | 56, _ => rw [← am_sc56]; exact fun w hw => List.mem_of_mem_drop (List.mem_of_mem_take hw)
  | 57, _ => rw [← am_sc57]; exact fun w hw => List.mem_of_mem_drop (List.mem_of_mem_take hw)
  | 58, _ => rw [← am_sc58]; exact fun w hw => List.mem_of_mem_drop (List.mem_of_mem_take hw)
  | 59, _ => rw [← am_sc59]; exact fun w hw => List.mem_of_mem_drop (List.mem_of_mem_take hw)
  | 60, _ => rw [← am_sc60]; exact fun w hw => List.mem_of_mem_drop (List.mem_of_mem_take hw)
  | 61, _ => rw [← am_sc61]; exact fun w hw => List.mem_of_mem_drop (List.mem_of_mem_take hw)
  | 62, _ => rw [← am_sc62]; exact fun w hw => List.mem_of_mem_drop (List.mem_of_mem_take hw)
  | 63, _ => rw [← am_sc63]; exact fun w hw => List.mem_of_mem_drop (List.mem_of_mem_take hw)
  | 64, _ => rw [← am_sc64]; exact fun w hw => List.mem_of_mem_drop (List.mem_of_mem_take hw)
  | 65, _ => rw [← am_sc65]; exact fun w hw => List.mem_of_mem_drop (List.mem_of_mem_take hw)
  | 66, _ => rw [← am_sc66]; exact fun w hw => List.mem_of_mem_drop (List.mem_of_mem_take hw)
  | 67, _ => rw [← am_sc67]; exact fun w hw => List.mem_of_mem_drop (List.mem_of_mem_take hw)
  | 68, _ => rw [← am_sc68]; exact fun w hw => List.mem_of_mem_drop (List.mem_of_mem_take hw)
  | 69, _ => rw [← am_sc69]; exact fun w hw => List.mem_of_mem_drop (List.mem_of_mem_take hw)
  | 70, _ => rw [← am_sc70]; exact fun w hw => List.mem_of_mem_drop (List.mem_of_mem_take hw)
  | 71, _ => rw [← am_sc71]; exact fun w hw => List.mem_of_mem_drop (List.mem_of_mem_take hw)
  | 72, _ => rw [← am_sc72]; exact fun w hw => List.mem_of_mem_drop (List.mem_of_mem_take hw)
  | 73, _ => rw [← am_sc73]; exact fun w hw => List.mem_of_mem_drop (List.mem_of_mem_take hw)
  | 74, _ => rw [← am_sc74]; exact fun w hw => List.mem_of_mem_drop (List.mem_of_mem_take hw)
  | 75, _ => rw [← am_sc75]; exact fun w hw => List.mem_of_mem_drop (List.mem_of_mem_take hw)
  | 76, _ => rw [← am_sc76]; exact fun w hw => List.mem_of_mem_drop (List.mem_of_mem_take hw)
  | 77, _ => rw [← am_sc77]; exact fun w hw => List.mem_of_mem_drop (List.mem_of_mem_take hw)
  | 78, _ => rw [← am_sc78]; exact fun w hw => List.mem_of_mem_drop (List.mem_of_mem_take hw)
  | 79, _ => rw [← am_sc79]; exact fun w hw => List.mem_of_mem_drop (List.mem_of_mem_take hw)
  | 80, _ => rw [← am_sc80]; exact fun w hw => List.mem_of_mem_drop (List.mem_of_mem_take hw)
  | 81, _ => rw [← am_sc81]; exact fun w hw => List.mem_of_mem_drop (List.mem_of_mem_take hw)
  | 82, _ => rw [← am_sc82]; exact fun w hw => List.mem_of_mem_drop (List.mem_of_mem_take hw)
  | 83, _ => rw [← am_sc83]; exact fun w hw => List.mem_of_mem_drop (List.mem_of_mem_take hw)
  | 84, _ => rw [← am_sc84]; exact fun w hw => List.mem_of_mem_drop (List.mem_of_mem_take hw)
  | 85, _ => rw [← am_sc85]; exact fun w hw => List.mem_of_mem_drop (List.mem_of_mem_take hw)
  | 86, _ => rw [← am_sc86]; exact fun w hw => List.mem_of_mem_drop (List.mem_of_mem_take hw)
  | 87, _ => rw [← am_sc87]; exact fun w hw => List.mem_of_mem_drop (List.mem_of_mem_take hw)
  | 88, _ => rw [← am_sc88]; exact fun w hw => List.mem_of_mem_drop (List.mem_of_mem_take hw)
  | 89, _ => rw [← am_sc89]; exact fun w hw => List.mem_of_mem_drop (List.mem_of_mem_take hw)
  | 90, _ => rw [← am_sc90]; exact fun w hw => List.mem_of_mem_drop (List.mem_of_mem_take hw)
  | 91, _ => rw [← am_sc91]; exact fun w hw => List.mem_of_mem_drop (List.mem_of_mem_take hw)
  | 92, _ => rw [← am_sc92]; exact fun w hw => List.mem_of_mem_drop (List.mem_of_mem_take hw)
  | 93, _ => rw [← am_sc93]; exact fun w hw => List.mem_of_mem_drop (List.mem_of_mem_take hw)
  | 94, _ => rw [← am_sc94]; exact fun w hw => List.mem_of_mem_drop (List.mem_of_mem_take hw)
  | 95, _ => rw [← am_sc95]; exact fun w hw => List.mem_of_mem_drop (List.mem_of_mem_take hw)
  | n + 96, h => exact absurd h (by omega)
theorem am_cs : am_flat[4]? = some (Cond.eq (.static (am_sf 101 0).1 (am_sf 101 0).2.1 (am_sf 101 0).2.2) (.int 1)) := by rfl
theorem am_fmt : am_flat[5]? = some (Cond.isRef (.static (am_sf 101 1).1 (am_sf 101 1).2.1 (am_sf 101 1).2.2)) := by rfl
