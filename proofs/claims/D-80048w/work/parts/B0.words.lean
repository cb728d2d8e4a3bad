set_option maxRecDepth 100000
/-! words and signs: of the component, of the model -/
section
variable {b : Int → Int} {n k : Nat}
theorem tw_unbounded : tk_is b n k (st_str (-14)) ↔ (tk_s b n k = 1 ∧ tk_w b n k = st_str (-122)) := by
  rw [show st_str (-14) = [117, 110, 98, 111, 117, 110, 100, 101, 100] by decide +kernel, show st_str (-122) = [117, 110, 98, 111, 117, 110, 100, 101, 100] by decide +kernel]; exact tk_is_w (by decide)
theorem tw_select : tk_is b n k (st_str (-16)) ↔ (tk_s b n k = 1 ∧ tk_w b n k = st_str (-124)) := by
  rw [show st_str (-16) = [115, 101, 108, 101, 99, 116] by decide +kernel, show st_str (-124) = [115, 101, 108, 101, 99, 116] by decide +kernel]; exact tk_is_w (by decide)
theorem tw_distinct : tk_is b n k (st_str (-18)) ↔ (tk_s b n k = 1 ∧ tk_w b n k = st_str (-126)) := by
  rw [show st_str (-18) = [100, 105, 115, 116, 105, 110, 99, 116] by decide +kernel, show st_str (-126) = [100, 105, 115, 116, 105, 110, 99, 116] by decide +kernel]; exact tk_is_w (by decide)
theorem tw_count : tk_is b n k (st_str (-20)) ↔ (tk_s b n k = 1 ∧ tk_w b n k = st_str (-128)) := by
  rw [show st_str (-20) = [99, 111, 117, 110, 116] by decide +kernel, show st_str (-128) = [99, 111, 117, 110, 116] by decide +kernel]; exact tk_is_w (by decide)
theorem tw_sum : tk_is b n k (st_str (-22)) ↔ (tk_s b n k = 1 ∧ tk_w b n k = st_str (-130)) := by
  rw [show st_str (-22) = [115, 117, 109] by decide +kernel, show st_str (-130) = [115, 117, 109] by decide +kernel]; exact tk_is_w (by decide)
theorem tw_min : tk_is b n k (st_str (-24)) ↔ (tk_s b n k = 1 ∧ tk_w b n k = st_str (-132)) := by
  rw [show st_str (-24) = [109, 105, 110] by decide +kernel, show st_str (-132) = [109, 105, 110] by decide +kernel]; exact tk_is_w (by decide)
theorem tw_max : tk_is b n k (st_str (-26)) ↔ (tk_s b n k = 1 ∧ tk_w b n k = st_str (-134)) := by
  rw [show st_str (-26) = [109, 97, 120] by decide +kernel, show st_str (-134) = [109, 97, 120] by decide +kernel]; exact tk_is_w (by decide)
theorem tw_time : tk_is b n k (st_str (-28)) ↔ (tk_s b n k = 1 ∧ tk_w b n k = st_str (-146)) := by
  rw [show st_str (-28) = [116, 105, 109, 101] by decide +kernel, show st_str (-146) = [116, 105, 109, 101] by decide +kernel]; exact tk_is_w (by decide)
theorem tw_null : tk_is b n k (st_str (-30)) ↔ (tk_s b n k = 1 ∧ tk_w b n k = st_str (-136)) := by
  rw [show st_str (-30) = [110, 117, 108, 108] by decide +kernel, show st_str (-136) = [110, 117, 108, 108] by decide +kernel]; exact tk_is_w (by decide)
theorem tw_true : tk_is b n k (st_str (-32)) ↔ (tk_s b n k = 1 ∧ tk_w b n k = st_str (-138)) := by
  rw [show st_str (-32) = [116, 114, 117, 101] by decide +kernel, show st_str (-138) = [116, 114, 117, 101] by decide +kernel]; exact tk_is_w (by decide)
theorem tw_false : tk_is b n k (st_str (-34)) ↔ (tk_s b n k = 1 ∧ tk_w b n k = st_str (-140)) := by
  rw [show st_str (-34) = [102, 97, 108, 115, 101] by decide +kernel, show st_str (-140) = [102, 97, 108, 115, 101] by decide +kernel]; exact tk_is_w (by decide)
theorem tw_case : tk_is b n k (st_str (-38)) ↔ (tk_s b n k = 1 ∧ tk_w b n k = st_str (-142)) := by
  rw [show st_str (-38) = [99, 97, 115, 101] by decide +kernel, show st_str (-142) = [99, 97, 115, 101] by decide +kernel]; exact tk_is_w (by decide)
theorem tw_span : tk_is b n k (st_str (-40)) ↔ (tk_s b n k = 1 ∧ tk_w b n k = st_str (-144)) := by
  rw [show st_str (-40) = [115, 112, 97, 110] by decide +kernel, show st_str (-144) = [115, 112, 97, 110] by decide +kernel]; exact tk_is_w (by decide)
theorem tw_not : tk_is b n k (st_str (-44)) ↔ (tk_s b n k = 1 ∧ tk_w b n k = st_str (-150)) := by
  rw [show st_str (-44) = [110, 111, 116] by decide +kernel, show st_str (-150) = [110, 111, 116] by decide +kernel]; exact tk_is_w (by decide)
theorem tw_when : tk_is b n k (st_str (-50)) ↔ (tk_s b n k = 1 ∧ tk_w b n k = st_str (-152)) := by
  rw [show st_str (-50) = [119, 104, 101, 110] by decide +kernel, show st_str (-152) = [119, 104, 101, 110] by decide +kernel]; exact tk_is_w (by decide)
theorem tw_then : tk_is b n k (st_str (-52)) ↔ (tk_s b n k = 1 ∧ tk_w b n k = st_str (-154)) := by
  rw [show st_str (-52) = [116, 104, 101, 110] by decide +kernel, show st_str (-154) = [116, 104, 101, 110] by decide +kernel]; exact tk_is_w (by decide)
theorem tw_else : tk_is b n k (st_str (-54)) ↔ (tk_s b n k = 1 ∧ tk_w b n k = st_str (-156)) := by
  rw [show st_str (-54) = [101, 108, 115, 101] by decide +kernel, show st_str (-156) = [101, 108, 115, 101] by decide +kernel]; exact tk_is_w (by decide)
theorem tw_end : tk_is b n k (st_str (-56)) ↔ (tk_s b n k = 1 ∧ tk_w b n k = st_str (-158)) := by
  rw [show st_str (-56) = [101, 110, 100] by decide +kernel, show st_str (-158) = [101, 110, 100] by decide +kernel]; exact tk_is_w (by decide)
theorem tw_is : tk_is b n k (st_str (-80)) ↔ (tk_s b n k = 1 ∧ tk_w b n k = st_str (-160)) := by
  rw [show st_str (-80) = [105, 115] by decide +kernel, show st_str (-160) = [105, 115] by decide +kernel]; exact tk_is_w (by decide)
theorem tw_in : tk_is b n k (st_str (-82)) ↔ (tk_s b n k = 1 ∧ tk_w b n k = st_str (-162)) := by
  rw [show st_str (-82) = [105, 110] by decide +kernel, show st_str (-162) = [105, 110] by decide +kernel]; exact tk_is_w (by decide)
theorem tw_and : tk_is b n k (st_str (-84)) ↔ (tk_s b n k = 1 ∧ tk_w b n k = st_str (-164)) := by
  rw [show st_str (-84) = [97, 110, 100] by decide +kernel, show st_str (-164) = [97, 110, 100] by decide +kernel]; exact tk_is_w (by decide)
theorem tw_or : tk_is b n k (st_str (-86)) ↔ (tk_s b n k = 1 ∧ tk_w b n k = st_str (-166)) := by
  rw [show st_str (-86) = [111, 114] by decide +kernel, show st_str (-166) = [111, 114] by decide +kernel]; exact tk_is_w (by decide)
theorem tw_as : tk_is b n k (st_str (-88)) ↔ (tk_s b n k = 1 ∧ tk_w b n k = st_str (-168)) := by
  rw [show st_str (-88) = [97, 115] by decide +kernel, show st_str (-168) = [97, 115] by decide +kernel]; exact tk_is_w (by decide)
theorem tw_from : tk_is b n k (st_str (-90)) ↔ (tk_s b n k = 1 ∧ tk_w b n k = st_str (-170)) := by
  rw [show st_str (-90) = [102, 114, 111, 109] by decide +kernel, show st_str (-170) = [102, 114, 111, 109] by decide +kernel]; exact tk_is_w (by decide)
theorem tw_keep : tk_is b n k (st_str (-92)) ↔ (tk_s b n k = 1 ∧ tk_w b n k = st_str (-172)) := by
  rw [show st_str (-92) = [107, 101, 101, 112] by decide +kernel, show st_str (-172) = [107, 101, 101, 112] by decide +kernel]; exact tk_is_w (by decide)
theorem tw_join : tk_is b n k (st_str (-94)) ↔ (tk_s b n k = 1 ∧ tk_w b n k = st_str (-174)) := by
  rw [show st_str (-94) = [106, 111, 105, 110] by decide +kernel, show st_str (-174) = [106, 111, 105, 110] by decide +kernel]; exact tk_is_w (by decide)
theorem tw_left : tk_is b n k (st_str (-96)) ↔ (tk_s b n k = 1 ∧ tk_w b n k = st_str (-176)) := by
  rw [show st_str (-96) = [108, 101, 102, 116] by decide +kernel, show st_str (-176) = [108, 101, 102, 116] by decide +kernel]; exact tk_is_w (by decide)
theorem tw_on : tk_is b n k (st_str (-98)) ↔ (tk_s b n k = 1 ∧ tk_w b n k = st_str (-178)) := by
  rw [show st_str (-98) = [111, 110] by decide +kernel, show st_str (-178) = [111, 110] by decide +kernel]; exact tk_is_w (by decide)
theorem tw_where : tk_is b n k (st_str (-100)) ↔ (tk_s b n k = 1 ∧ tk_w b n k = st_str (-180)) := by
  rw [show st_str (-100) = [119, 104, 101, 114, 101] by decide +kernel, show st_str (-180) = [119, 104, 101, 114, 101] by decide +kernel]; exact tk_is_w (by decide)
theorem tw_group : tk_is b n k (st_str (-102)) ↔ (tk_s b n k = 1 ∧ tk_w b n k = st_str (-182)) := by
  rw [show st_str (-102) = [103, 114, 111, 117, 112] by decide +kernel, show st_str (-182) = [103, 114, 111, 117, 112] by decide +kernel]; exact tk_is_w (by decide)
theorem tw_by : tk_is b n k (st_str (-104)) ↔ (tk_s b n k = 1 ∧ tk_w b n k = st_str (-184)) := by
  rw [show st_str (-104) = [98, 121] by decide +kernel, show st_str (-184) = [98, 121] by decide +kernel]; exact tk_is_w (by decide)
theorem tw_having : tk_is b n k (st_str (-106)) ↔ (tk_s b n k = 1 ∧ tk_w b n k = st_str (-186)) := by
  rw [show st_str (-106) = [104, 97, 118, 105, 110, 103] by decide +kernel, show st_str (-186) = [104, 97, 118, 105, 110, 103] by decide +kernel]; exact tk_is_w (by decide)
theorem tw_union : tk_is b n k (st_str (-108)) ↔ (tk_s b n k = 1 ∧ tk_w b n k = st_str (-188)) := by
  rw [show st_str (-108) = [117, 110, 105, 111, 110] by decide +kernel, show st_str (-188) = [117, 110, 105, 111, 110] by decide +kernel]; exact tk_is_w (by decide)
theorem tw_all : tk_is b n k (st_str (-114)) ↔ (tk_s b n k = 1 ∧ tk_w b n k = st_str (-190)) := by
  rw [show st_str (-114) = [97, 108, 108] by decide +kernel, show st_str (-190) = [97, 108, 108] by decide +kernel]; exact tk_is_w (by decide)
theorem tw_except : tk_is b n k (st_str (-110)) ↔ (tk_s b n k = 1 ∧ tk_w b n k = st_str (-192)) := by
  rw [show st_str (-110) = [101, 120, 99, 101, 112, 116] by decide +kernel, show st_str (-192) = [101, 120, 99, 101, 112, 116] by decide +kernel]; exact tk_is_w (by decide)
theorem tw_intersect : tk_is b n k (st_str (-112)) ↔ (tk_s b n k = 1 ∧ tk_w b n k = st_str (-194)) := by
  rw [show st_str (-112) = [105, 110, 116, 101, 114, 115, 101, 99, 116] by decide +kernel, show st_str (-194) = [105, 110, 116, 101, 114, 115, 101, 99, 116] by decide +kernel]; exact tk_is_w (by decide)
theorem tw_order : tk_is b n k (st_str (-116)) ↔ (tk_s b n k = 1 ∧ tk_w b n k = st_str (-196)) := by
  rw [show st_str (-116) = [111, 114, 100, 101, 114] by decide +kernel, show st_str (-196) = [111, 114, 100, 101, 114] by decide +kernel]; exact tk_is_w (by decide)
theorem tw_desc : tk_is b n k (st_str (-118)) ↔ (tk_s b n k = 1 ∧ tk_w b n k = st_str (-198)) := by
  rw [show st_str (-118) = [100, 101, 115, 99] by decide +kernel, show st_str (-198) = [100, 101, 115, 99] by decide +kernel]; exact tk_is_w (by decide)
theorem tw_limit : tk_is b n k (st_str (-120)) ↔ (tk_s b n k = 1 ∧ tk_w b n k = st_str (-200)) := by
  rw [show st_str (-120) = [108, 105, 109, 105, 116] by decide +kernel, show st_str (-200) = [108, 105, 109, 105, 116] by decide +kernel]; exact tk_is_w (by decide)
theorem ts_40 : tk_is b n k (st_str (-36)) ↔ tk_s b n k = 40 := by
  rw [show st_str (-36) = [40] by decide +kernel]; exact tk_is_s (by decide)
theorem ts_41 : tk_is b n k (st_str (-48)) ↔ tk_s b n k = 41 := by
  rw [show st_str (-48) = [41] by decide +kernel]; exact tk_is_s (by decide)
theorem ts_44 : tk_is b n k (st_str (-58)) ↔ tk_s b n k = 44 := by
  rw [show st_str (-58) = [44] by decide +kernel]; exact tk_is_s (by decide)
theorem ts_46 : tk_is b n k (st_str (-46)) ↔ tk_s b n k = 46 := by
  rw [show st_str (-46) = [46] by decide +kernel]; exact tk_is_s (by decide)
theorem ts_43 : tk_is b n k (st_str (-66)) ↔ tk_s b n k = 43 := by
  rw [show st_str (-66) = [43] by decide +kernel]; exact tk_is_s (by decide)
theorem ts_45 : tk_is b n k (st_str (-42)) ↔ tk_s b n k = 45 := by
  rw [show st_str (-42) = [45] by decide +kernel]; exact tk_is_s (by decide)
theorem ts_42 : tk_is b n k (st_str (-60)) ↔ tk_s b n k = 42 := by
  rw [show st_str (-60) = [42] by decide +kernel]; exact tk_is_s (by decide)
theorem ts_47 : tk_is b n k (st_str (-62)) ↔ tk_s b n k = 47 := by
  rw [show st_str (-62) = [47] by decide +kernel]; exact tk_is_s (by decide)
theorem ts_37 : tk_is b n k (st_str (-64)) ↔ tk_s b n k = 37 := by
  rw [show st_str (-64) = [37] by decide +kernel]; exact tk_is_s (by decide)
theorem ts_61 : tk_is b n k (st_str (-68)) ↔ tk_s b n k = 61 := by
  rw [show st_str (-68) = [61] by decide +kernel]; exact tk_is_s (by decide)
theorem ts_60 : tk_is b n k (st_str (-72)) ↔ tk_s b n k = 60 := by
  rw [show st_str (-72) = [60] by decide +kernel]; exact tk_is_s (by decide)
theorem ts_62 : tk_is b n k (st_str (-76)) ↔ tk_s b n k = 62 := by
  rw [show st_str (-76) = [62] by decide +kernel]; exact tk_is_s (by decide)
theorem ts_400 : tk_is b n k (st_str (-70)) ↔ tk_s b n k = 400 := by
  rw [show st_str (-70) = [60, 62] by decide +kernel]; exact tk_is_2.1
theorem ts_401 : tk_is b n k (st_str (-74)) ↔ tk_s b n k = 401 := by
  rw [show st_str (-74) = [60, 61] by decide +kernel]; exact tk_is_2.2.1
theorem ts_402 : tk_is b n k (st_str (-78)) ↔ tk_s b n k = 402 := by
  rw [show st_str (-78) = [62, 61] by decide +kernel]; exact tk_is_2.2.2
end
