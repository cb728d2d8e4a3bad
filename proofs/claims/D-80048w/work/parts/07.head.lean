set_option maxRecDepth 1000000
/-- a method's head: names, arity, answer -/
def am_okK (y : Nat) : Bool := plainFor (am_y y) && decide ((am_y y).cls ≠ "java/lang/invoke/MethodHandle") && decide ((am_y y).cls ≠ "java/lang/invoke/VarHandle") && decide ((parseMethodDescriptor (am_y y).desc).map (fun d => d.parameters.length) = some (am_np y)) && decide ((am_y y).cls = am_nm (am_ow y)) &&
  (match am_rt y, am_r y with
  | 0, some .int => true
  | 1, some .boolean => true
  | 2, some .byte => true
  | 3, some .char => true
  | 4, some .long => true
  | 5, some (.object _) => true
  | 5, some (.array _) => true
  | 6, none => true
  | _, _ => false) && decide (am_sk y = 2 → (am_y y).name = "<init>") && decide (am_ml y ≤ 13)
theorem am_okh1 : (List.range 100).all am_okK = true := by decide +kernel
theorem am_okh2 : ((List.range 200).drop 100).all am_okK = true := by decide +kernel
theorem am_okh3 : ((List.range 310).drop 200).all am_okK = true := by decide +kernel
theorem am_okh (y : Nat) (h : y < 310) : am_okK y = true := by
  by_cases h1 : y < 100
  · exact List.all_eq_true.mp am_okh1 y (List.mem_range.mpr h1)
  by_cases h2 : y < 200
  · refine List.all_eq_true.mp am_okh2 y ?_
    refine List.mem_of_getElem? (i := y - 100) ?_
    rw [List.getElem?_drop, List.getElem?_range (by omega)]
    congr 1; omega
  · refine List.all_eq_true.mp am_okh3 y ?_
    refine List.mem_of_getElem? (i := y - 200) ?_
    rw [List.getElem?_drop, List.getElem?_range (by omega)]
    congr 1; omega
