set_option maxRecDepth 100000
def R_law : String := "StreamQueriesLaw"
def RX0 : String := "StreamQueries"
def TX0 : u_T := fun k => match k with
  | 0 => ("StreamQueries", "tape", "[B", true)
  | 1 => ("StreamQueries", "tapeSize", "I", false)
  | 2 => ("StreamQueries", "streams", "I", false)
  | 3 => ("StreamQueries", "columns", "[I", true)
  | 4 => ("StreamQueries", "rows", "[LStreamQueries$Row;", true)
  | 5 => ("StreamQueries", "isRow", "[Z", true)
  | 6 => ("StreamQueries", "watermark", "J", false)
  | 7 => ("StreamQueries", "draft", "LStreamQueries$Row;", true)
  | 8 => ("StreamQueries", "pool", "LStreamQueries$Pool;", true)
  | 9 => ("StreamQueries", "plan", "LStreamQueries$Plan;", false)
  | 10 => ("StreamQueries", "spare", "LStreamQueries$Plan;", false)
  | 11 => ("StreamQueries", "isQuery", "Z", false)
  | 12 => ("StreamQueries", "fault", "I", false)
  | 13 => ("StreamQueries", "delta", "LStreamQueries$Bag;", true)
  | _ => ("StreamQueries", "changes", "LStreamQueries$Bag;", true)
def tyX0 : Nat → FieldType := fun k => match k with
  | 0 => .array .byte
  | 1 => .int
  | 2 => .int
  | 3 => .array .int
  | 4 => .array (.object "StreamQueries$Row")
  | 5 => .array .boolean
  | 6 => .long
  | 7 => .object "StreamQueries$Row"
  | 8 => .object "StreamQueries$Pool"
  | 9 => .object "StreamQueries$Plan"
  | 10 => .object "StreamQueries$Plan"
  | 11 => .boolean
  | 12 => .int
  | 13 => .object "StreamQueries$Bag"
  | _ => .object "StreamQueries$Bag"
abbrev wsX00 : List Cond := u_ws RX0 TX0 15
theorem nmX0 : ∀ a, a < 15 → ∀ b, b < 15 → a ≠ b → (TX0 a).2.1 ≠ (TX0 b).2.1 := by decide +kernel
theorem tyX0_ok : ∀ k, k < 15 → parseFieldDescriptor (TX0 k).2.2.1 = some (tyX0 k) := by decide +kernel
abbrev cX0_init : ByteArray := prog_1_method_1_code
def yX0_init : MethodName := ⟨RX0, "<init>", "()V"⟩
abbrev cX0_feed : ByteArray := prog_1_method_2_code
def yX0_feed : MethodName := ⟨RX0, "feed", "(IIIII)I"⟩
abbrev cX0_put : ByteArray := prog_1_method_3_code
def yX0_put : MethodName := ⟨RX0, "put", "(I)V"⟩
abbrev cX0_cut : ByteArray := prog_1_method_4_code
def yX0_cut : MethodName := ⟨RX0, "cut", "(I)I"⟩
abbrev cX0_stream : ByteArray := prog_1_method_5_code
def yX0_stream : MethodName := ⟨RX0, "stream", "(I)I"⟩
abbrev cX0_query : ByteArray := prog_1_method_6_code
def yX0_query : MethodName := ⟨RX0, "query", "()I"⟩
abbrev cX0_fault : ByteArray := prog_1_method_7_code
def yX0_fault : MethodName := ⟨RX0, "fault", "()I"⟩
abbrev cX0_value : ByteArray := prog_1_method_8_code
def yX0_value : MethodName := ⟨RX0, "value", "(J)I"⟩
abbrev cX0_nothing : ByteArray := prog_1_method_9_code
def yX0_nothing : MethodName := ⟨RX0, "nothing", "()I"⟩
abbrev cX0_row : ByteArray := prog_1_method_10_code
def yX0_row : MethodName := ⟨RX0, "row", "(IJ)I"⟩
abbrev cX0_feed_2 : ByteArray := prog_1_method_11_code
def yX0_feed_2 : MethodName := ⟨RX0, "feed", "(III)V"⟩
abbrev cX0_back : ByteArray := prog_1_method_12_code
def yX0_back : MethodName := ⟨RX0, "back", "(II)Z"⟩
abbrev cX0_watermark : ByteArray := prog_1_method_13_code
def yX0_watermark : MethodName := ⟨RX0, "watermark", "(J)I"⟩
abbrev cX0_changes : ByteArray := prog_1_method_14_code
def yX0_changes : MethodName := ⟨RX0, "changes", "()I"⟩
abbrev cX0_change : ByteArray := prog_1_method_16_code
def yX0_change : MethodName := ⟨RX0, "change", "(I)I"⟩
abbrev cX0_changed : ByteArray := prog_1_method_17_code
def yX0_changed : MethodName := ⟨RX0, "changed", "(II)J"⟩
abbrev cX0_isChange : ByteArray := prog_1_method_15_code
def yX0_isChange : MethodName := ⟨RX0, "isChange", "(II)Z"⟩
abbrev cX0_changedNull : ByteArray := prog_1_method_18_code
def yX0_changedNull : MethodName := ⟨RX0, "changedNull", "(II)Z"⟩
abbrev cX0_rows : ByteArray := prog_1_method_19_code
def yX0_rows : MethodName := ⟨RX0, "rows", "()I"⟩
abbrev cX0_at : ByteArray := prog_1_method_21_code
def yX0_at : MethodName := ⟨RX0, "at", "(II)J"⟩
abbrev cX0_answer : ByteArray := prog_1_method_20_code
def yX0_answer : MethodName := ⟨RX0, "answer", "(II)LStreamQueries$Row;"⟩
abbrev cX0_isNull : ByteArray := prog_1_method_22_code
def yX0_isNull : MethodName := ⟨RX0, "isNull", "(II)Z"⟩
abbrev cX0_type : ByteArray := prog_1_method_23_code
def yX0_type : MethodName := ⟨RX0, "type", "(I)I"⟩
abbrev cX0_three : ByteArray := prog_1_method_24_code
def yX0_three : MethodName := ⟨RX0, "three", "(III)I"⟩
abbrev cX0_told : ByteArray := prog_1_method_25_code
def yX0_told : MethodName := ⟨RX0, "told", "(I)I"⟩
theorem q162 : (Jvm.Cond.initialized "StreamQueries") ∈ lw_all := lw_g (lw_at lw_m1 1 rfl) rfl
theorem q182 : (Jvm.Cond.instantiable "StreamQueries" (15 : Nat)) ∈ lw_all := lw_g (lw_at lw_m1 21 rfl) rfl
theorem q184 : (Jvm.Cond.instanceMethod ({ cls := "StreamQueries", name := "<init>", desc := "()V" } : Jvm.MethodName)) ∈ lw_all := lw_g (lw_at lw_m1 23 rfl) rfl
theorem q185 : (Jvm.Cond.code ({ cls := "StreamQueries", name := "<init>", desc := "()V" } : Jvm.MethodName) prog_1_method_1_code (2 : Nat) (Option.none : Option Jvm.ClassFile.FieldType)) ∈ lw_all := lw_g (lw_at lw_m1 24 rfl) rfl
theorem q186 : (Jvm.Cond.methodLink "StreamQueries" (1 : Nat) ({ cls := "java/lang/Object", name := "<init>", desc := "()V" } : Jvm.MethodName)) ∈ lw_all := lw_g (lw_at lw_m1 25 rfl) rfl
theorem q189 : (Jvm.Cond.classLink "StreamQueries" (17 : Nat) "StreamQueries$Row") ∈ lw_all := lw_g (lw_at lw_m1 28 rfl) rfl
theorem q191 : (Jvm.Cond.constantLong "StreamQueries" (29 : Nat) (-9223372036854775808 : Int64)) ∈ lw_all := lw_g (lw_at lw_m1 30 rfl) rfl
theorem q193 : (Jvm.Cond.methodLinkNest "StreamQueries" (35 : Nat) ({ cls := "StreamQueries$Row", name := "<init>", desc := "()V" } : Jvm.MethodName) "StreamQueries") ∈ lw_tbl := lw_at lw_m1 32 rfl
theorem q211 : (Jvm.Cond.classLink "StreamQueries" (40 : Nat) "StreamQueries$Pool") ∈ lw_all := lw_g (lw_at lw_m1 50 rfl) rfl
theorem q213 : (Jvm.Cond.methodLinkNest "StreamQueries" (42 : Nat) ({ cls := "StreamQueries$Pool", name := "<init>", desc := "()V" } : Jvm.MethodName) "StreamQueries") ∈ lw_tbl := lw_at lw_m1 52 rfl
theorem q231 : (Jvm.Cond.classLink "StreamQueries" (47 : Nat) "StreamQueries$Plan") ∈ lw_all := lw_g (lw_at lw_m1 70 rfl) rfl
theorem q233 : (Jvm.Cond.methodLink "StreamQueries" (49 : Nat) ({ cls := "StreamQueries$Plan", name := "<init>", desc := "(LStreamQueries$Pool;)V" } : Jvm.MethodName)) ∈ lw_all := lw_g (lw_at lw_m1 72 rfl) rfl
theorem q397 : (Jvm.Cond.classLink "StreamQueries" (59 : Nat) "StreamQueries$Bag") ∈ lw_all := lw_g (lw_at lw_m1 236 rfl) rfl
theorem q399 : (Jvm.Cond.methodLink "StreamQueries" (61 : Nat) ({ cls := "StreamQueries$Bag", name := "<init>", desc := "(LStreamQueries$Pool;)V" } : Jvm.MethodName)) ∈ lw_all := lw_g (lw_at lw_m1 238 rfl) rfl
theorem q417 : (Jvm.Cond.fieldLink "StreamQueries" (9 : Nat) "StreamQueries" "tape" "[B") ∈ lw_all := lw_g (lw_at lw_m2 16 rfl) rfl
theorem q418 : (Jvm.Cond.fieldLink "StreamQueries" (69 : Nat) "StreamQueries" "tapeSize" "I") ∈ lw_all := lw_g (lw_at lw_m2 17 rfl) rfl
theorem q419 : (Jvm.Cond.fieldLink "StreamQueries" (77 : Nat) "StreamQueries" "streams" "I") ∈ lw_all := lw_g (lw_at lw_m2 18 rfl) rfl
theorem q420 : (Jvm.Cond.fieldLink "StreamQueries" (13 : Nat) "StreamQueries" "columns" "[I") ∈ lw_all := lw_g (lw_at lw_m2 19 rfl) rfl
theorem q421 : (Jvm.Cond.fieldLink "StreamQueries" (19 : Nat) "StreamQueries" "rows" "[LStreamQueries$Row;") ∈ lw_all := lw_g (lw_at lw_m2 20 rfl) rfl
theorem q422 : (Jvm.Cond.fieldLink "StreamQueries" (23 : Nat) "StreamQueries" "isRow" "[Z") ∈ lw_all := lw_g (lw_at lw_m2 21 rfl) rfl
theorem q423 : (Jvm.Cond.fieldLink "StreamQueries" (31 : Nat) "StreamQueries" "watermark" "J") ∈ lw_all := lw_g (lw_at lw_m2 22 rfl) rfl
theorem q424 : (Jvm.Cond.fieldLink "StreamQueries" (36 : Nat) "StreamQueries" "draft" "LStreamQueries$Row;") ∈ lw_all := lw_g (lw_at lw_m2 23 rfl) rfl
theorem q425 : (Jvm.Cond.fieldLink "StreamQueries" (43 : Nat) "StreamQueries" "pool" "LStreamQueries$Pool;") ∈ lw_all := lw_g (lw_at lw_m2 24 rfl) rfl
theorem q426 : (Jvm.Cond.fieldLink "StreamQueries" (52 : Nat) "StreamQueries" "plan" "LStreamQueries$Plan;") ∈ lw_all := lw_g (lw_at lw_m2 25 rfl) rfl
theorem q427 : (Jvm.Cond.fieldLink "StreamQueries" (56 : Nat) "StreamQueries" "spare" "LStreamQueries$Plan;") ∈ lw_all := lw_g (lw_at lw_m2 26 rfl) rfl
theorem q428 : (Jvm.Cond.fieldLink "StreamQueries" (99 : Nat) "StreamQueries" "isQuery" "Z") ∈ lw_all := lw_g (lw_at lw_m2 27 rfl) rfl
theorem q429 : (Jvm.Cond.fieldLink "StreamQueries" (91 : Nat) "StreamQueries" "fault" "I") ∈ lw_all := lw_g (lw_at lw_m2 28 rfl) rfl
theorem q430 : (Jvm.Cond.fieldLink "StreamQueries" (62 : Nat) "StreamQueries" "delta" "LStreamQueries$Bag;") ∈ lw_all := lw_g (lw_at lw_m2 29 rfl) rfl
theorem q431 : (Jvm.Cond.fieldLink "StreamQueries" (66 : Nat) "StreamQueries" "changes" "LStreamQueries$Bag;") ∈ lw_all := lw_g (lw_at lw_m2 30 rfl) rfl
theorem q432 : (Jvm.Cond.laysFinal "StreamQueries" "StreamQueries" "tape" "[B") ∈ lw_all := lw_g (lw_at lw_m2 31 rfl) rfl
theorem q433 : (Jvm.Cond.soleField "StreamQueries" "tape") ∈ lw_all := lw_g (lw_at lw_m2 32 rfl) rfl
theorem q434 : (Jvm.Cond.lays "StreamQueries" "StreamQueries" "tapeSize" "I") ∈ lw_all := lw_g (lw_at lw_m2 33 rfl) rfl
theorem q435 : (Jvm.Cond.soleField "StreamQueries" "tapeSize") ∈ lw_all := lw_g (lw_at lw_m2 34 rfl) rfl
theorem q436 : (Jvm.Cond.lays "StreamQueries" "StreamQueries" "streams" "I") ∈ lw_all := lw_g (lw_at lw_m2 35 rfl) rfl
theorem q437 : (Jvm.Cond.soleField "StreamQueries" "streams") ∈ lw_all := lw_g (lw_at lw_m2 36 rfl) rfl
theorem q438 : (Jvm.Cond.laysFinal "StreamQueries" "StreamQueries" "columns" "[I") ∈ lw_all := lw_g (lw_at lw_m2 37 rfl) rfl
theorem q439 : (Jvm.Cond.soleField "StreamQueries" "columns") ∈ lw_all := lw_g (lw_at lw_m2 38 rfl) rfl
theorem q440 : (Jvm.Cond.laysFinal "StreamQueries" "StreamQueries" "rows" "[LStreamQueries$Row;") ∈ lw_all := lw_g (lw_at lw_m2 39 rfl) rfl
theorem q441 : (Jvm.Cond.soleField "StreamQueries" "rows") ∈ lw_all := lw_g (lw_at lw_m2 40 rfl) rfl
theorem q442 : (Jvm.Cond.laysFinal "StreamQueries" "StreamQueries" "isRow" "[Z") ∈ lw_all := lw_g (lw_at lw_m2 41 rfl) rfl
theorem q443 : (Jvm.Cond.soleField "StreamQueries" "isRow") ∈ lw_all := lw_g (lw_at lw_m2 42 rfl) rfl
theorem q444 : (Jvm.Cond.lays "StreamQueries" "StreamQueries" "watermark" "J") ∈ lw_all := lw_g (lw_at lw_m2 43 rfl) rfl
theorem q445 : (Jvm.Cond.soleField "StreamQueries" "watermark") ∈ lw_all := lw_g (lw_at lw_m2 44 rfl) rfl
theorem q446 : (Jvm.Cond.laysFinal "StreamQueries" "StreamQueries" "draft" "LStreamQueries$Row;") ∈ lw_all := lw_g (lw_at lw_m2 45 rfl) rfl
theorem q447 : (Jvm.Cond.soleField "StreamQueries" "draft") ∈ lw_all := lw_g (lw_at lw_m2 46 rfl) rfl
theorem q448 : (Jvm.Cond.laysFinal "StreamQueries" "StreamQueries" "pool" "LStreamQueries$Pool;") ∈ lw_all := lw_g (lw_at lw_m2 47 rfl) rfl
theorem q449 : (Jvm.Cond.soleField "StreamQueries" "pool") ∈ lw_all := lw_g (lw_at lw_m2 48 rfl) rfl
theorem q450 : (Jvm.Cond.lays "StreamQueries" "StreamQueries" "plan" "LStreamQueries$Plan;") ∈ lw_all := lw_g (lw_at lw_m2 49 rfl) rfl
theorem q451 : (Jvm.Cond.soleField "StreamQueries" "plan") ∈ lw_all := lw_g (lw_at lw_m2 50 rfl) rfl
theorem q452 : (Jvm.Cond.lays "StreamQueries" "StreamQueries" "spare" "LStreamQueries$Plan;") ∈ lw_all := lw_g (lw_at lw_m2 51 rfl) rfl
theorem q453 : (Jvm.Cond.soleField "StreamQueries" "spare") ∈ lw_all := lw_g (lw_at lw_m2 52 rfl) rfl
theorem q454 : (Jvm.Cond.lays "StreamQueries" "StreamQueries" "isQuery" "Z") ∈ lw_all := lw_g (lw_at lw_m2 53 rfl) rfl
theorem q455 : (Jvm.Cond.soleField "StreamQueries" "isQuery") ∈ lw_all := lw_g (lw_at lw_m2 54 rfl) rfl
theorem q456 : (Jvm.Cond.lays "StreamQueries" "StreamQueries" "fault" "I") ∈ lw_all := lw_g (lw_at lw_m2 55 rfl) rfl
theorem q457 : (Jvm.Cond.soleField "StreamQueries" "fault") ∈ lw_all := lw_g (lw_at lw_m2 56 rfl) rfl
theorem q458 : (Jvm.Cond.laysFinal "StreamQueries" "StreamQueries" "delta" "LStreamQueries$Bag;") ∈ lw_all := lw_g (lw_at lw_m2 57 rfl) rfl
theorem q459 : (Jvm.Cond.soleField "StreamQueries" "delta") ∈ lw_all := lw_g (lw_at lw_m2 58 rfl) rfl
theorem q460 : (Jvm.Cond.laysFinal "StreamQueries" "StreamQueries" "changes" "LStreamQueries$Bag;") ∈ lw_all := lw_g (lw_at lw_m2 59 rfl) rfl
theorem q461 : (Jvm.Cond.soleField "StreamQueries" "changes") ∈ lw_all := lw_g (lw_at lw_m2 60 rfl) rfl
theorem q462 : (Jvm.Cond.superclass "StreamQueries" "java/lang/Object") ∈ lw_all := lw_g (lw_at lw_m2 61 rfl) rfl
theorem q464 : (Jvm.Cond.instanceMethod ({ cls := "StreamQueries", name := "feed", desc := "(IIIII)I" } : Jvm.MethodName)) ∈ lw_all := lw_g (lw_at lw_m2 63 rfl) rfl
theorem q465 : (Jvm.Cond.selects "StreamQueries" ({ cls := "StreamQueries", name := "feed", desc := "(IIIII)I" } : Jvm.MethodName) ({ cls := "StreamQueries", name := "feed", desc := "(IIIII)I" } : Jvm.MethodName)) ∈ lw_all := lw_g (lw_at lw_m2 64 rfl) rfl
theorem q466 : (Jvm.Cond.code ({ cls := "StreamQueries", name := "feed", desc := "(IIIII)I" } : Jvm.MethodName) prog_1_method_2_code (6 : Nat) (Option.some Jvm.ClassFile.FieldType.int)) ∈ lw_all := lw_g (lw_at lw_m2 65 rfl) rfl
theorem q467 : (Jvm.Cond.methodLink "StreamQueries" (73 : Nat) ({ cls := "StreamQueries", name := "put", desc := "(I)V" } : Jvm.MethodName)) ∈ lw_all := lw_g (lw_at lw_m2 66 rfl) rfl
theorem q468 : (Jvm.Cond.privateMethod ({ cls := "StreamQueries", name := "put", desc := "(I)V" } : Jvm.MethodName)) ∈ lw_tbl := lw_at lw_m2 67 rfl
theorem q469 : (Jvm.Cond.instanceMethod ({ cls := "StreamQueries", name := "put", desc := "(I)V" } : Jvm.MethodName)) ∈ lw_all := lw_g (lw_at lw_m2 68 rfl) rfl
theorem q470 : (Jvm.Cond.code ({ cls := "StreamQueries", name := "put", desc := "(I)V" } : Jvm.MethodName) prog_1_method_3_code (3 : Nat) (Option.none : Option Jvm.ClassFile.FieldType)) ∈ lw_all := lw_g (lw_at lw_m2 69 rfl) rfl
theorem q472 : (Jvm.Cond.instanceMethod ({ cls := "StreamQueries", name := "cut", desc := "(I)I" } : Jvm.MethodName)) ∈ lw_all := lw_g (lw_at lw_m2 71 rfl) rfl
theorem q473 : (Jvm.Cond.selects "StreamQueries" ({ cls := "StreamQueries", name := "cut", desc := "(I)I" } : Jvm.MethodName) ({ cls := "StreamQueries", name := "cut", desc := "(I)I" } : Jvm.MethodName)) ∈ lw_all := lw_g (lw_at lw_m2 72 rfl) rfl
theorem q474 : (Jvm.Cond.code ({ cls := "StreamQueries", name := "cut", desc := "(I)I" } : Jvm.MethodName) prog_1_method_4_code (3 : Nat) (Option.some Jvm.ClassFile.FieldType.int)) ∈ lw_all := lw_g (lw_at lw_m2 73 rfl) rfl
theorem q476 : (Jvm.Cond.instanceMethod ({ cls := "StreamQueries", name := "stream", desc := "(I)I" } : Jvm.MethodName)) ∈ lw_all := lw_g (lw_at lw_m2 75 rfl) rfl
theorem q477 : (Jvm.Cond.selects "StreamQueries" ({ cls := "StreamQueries", name := "stream", desc := "(I)I" } : Jvm.MethodName) ({ cls := "StreamQueries", name := "stream", desc := "(I)I" } : Jvm.MethodName)) ∈ lw_all := lw_g (lw_at lw_m2 76 rfl) rfl
theorem q478 : (Jvm.Cond.code ({ cls := "StreamQueries", name := "stream", desc := "(I)I" } : Jvm.MethodName) prog_1_method_5_code (2 : Nat) (Option.some Jvm.ClassFile.FieldType.int)) ∈ lw_all := lw_g (lw_at lw_m2 77 rfl) rfl
theorem q480 : (Jvm.Cond.instanceMethod ({ cls := "StreamQueries", name := "query", desc := "()I" } : Jvm.MethodName)) ∈ lw_all := lw_g (lw_at lw_m2 79 rfl) rfl
theorem q481 : (Jvm.Cond.selects "StreamQueries" ({ cls := "StreamQueries", name := "query", desc := "()I" } : Jvm.MethodName) ({ cls := "StreamQueries", name := "query", desc := "()I" } : Jvm.MethodName)) ∈ lw_all := lw_g (lw_at lw_m2 80 rfl) rfl
theorem q482 : (Jvm.Cond.code ({ cls := "StreamQueries", name := "query", desc := "()I" } : Jvm.MethodName) prog_1_method_6_code (5 : Nat) (Option.some Jvm.ClassFile.FieldType.int)) ∈ lw_all := lw_g (lw_at lw_m2 81 rfl) rfl
theorem q483 : (Jvm.Cond.methodLink "StreamQueries" (80 : Nat) ({ cls := "StreamQueries$Bag", name := "clear", desc := "()V" } : Jvm.MethodName)) ∈ lw_all := lw_g (lw_at lw_m2 82 rfl) rfl
theorem q494 : (Jvm.Cond.methodLink "StreamQueries" (83 : Nat) ({ cls := "StreamQueries$Plan", name := "read", desc := "([BI[II)V" } : Jvm.MethodName)) ∈ lw_all := lw_g (lw_at lw_m2 93 rfl) rfl
theorem q1236 : (Jvm.Cond.methodLink "StreamQueries" (87 : Nat) ({ cls := "StreamQueries$Plan", name := "fault", desc := "()I" } : Jvm.MethodName)) ∈ lw_all := lw_g (lw_at lw_m5 115 rfl) rfl
theorem q1240 : (Jvm.Cond.methodLink "StreamQueries" (93 : Nat) ({ cls := "StreamQueries$Plan", name := "place", desc := "()I" } : Jvm.MethodName)) ∈ lw_all := lw_g (lw_at lw_m5 119 rfl) rfl
theorem q1244 : (Jvm.Cond.methodLink "StreamQueries" (96 : Nat) ({ cls := "StreamQueries$Plan", name := "drop", desc := "()V" } : Jvm.MethodName)) ∈ lw_all := lw_g (lw_at lw_m5 123 rfl) rfl
theorem q1245 : (Jvm.Cond.methodLink "StreamQueries" (103 : Nat) ({ cls := "StreamQueries$Plan", name := "start", desc := "(J)V" } : Jvm.MethodName)) ∈ lw_all := lw_g (lw_at lw_m5 124 rfl) rfl
theorem q1456 : (Jvm.Cond.methodLink "StreamQueries" (107 : Nat) ({ cls := "StreamQueries$Bag", name := "add", desc := "(LStreamQueries$Row;I)V" } : Jvm.MethodName)) ∈ lw_all := lw_g (lw_at lw_m6 95 rfl) rfl
theorem q1457 : (Jvm.Cond.methodLink "StreamQueries" (111 : Nat) ({ cls := "StreamQueries$Plan", name := "feed", desc := "(ILStreamQueries$Bag;LStreamQueries$Bag;)V" } : Jvm.MethodName)) ∈ lw_all := lw_g (lw_at lw_m6 96 rfl) rfl
theorem q1488 : (Jvm.Cond.methodLink "StreamQueries" (115 : Nat) ({ cls := "StreamQueries$Plan", name := "columns", desc := "()I" } : Jvm.MethodName)) ∈ lw_all := lw_g (lw_at lw_m6 127 rfl) rfl
theorem q1493 : (Jvm.Cond.instanceMethod ({ cls := "StreamQueries", name := "fault", desc := "()I" } : Jvm.MethodName)) ∈ lw_all := lw_g (lw_at lw_m6 132 rfl) rfl
theorem q1494 : (Jvm.Cond.selects "StreamQueries" ({ cls := "StreamQueries", name := "fault", desc := "()I" } : Jvm.MethodName) ({ cls := "StreamQueries", name := "fault", desc := "()I" } : Jvm.MethodName)) ∈ lw_all := lw_g (lw_at lw_m6 133 rfl) rfl
theorem q1495 : (Jvm.Cond.code ({ cls := "StreamQueries", name := "fault", desc := "()I" } : Jvm.MethodName) prog_1_method_7_code (1 : Nat) (Option.some Jvm.ClassFile.FieldType.int)) ∈ lw_all := lw_g (lw_at lw_m6 134 rfl) rfl
theorem q1497 : (Jvm.Cond.instanceMethod ({ cls := "StreamQueries", name := "value", desc := "(J)I" } : Jvm.MethodName)) ∈ lw_all := lw_g (lw_at lw_m6 136 rfl) rfl
theorem q1498 : (Jvm.Cond.selects "StreamQueries" ({ cls := "StreamQueries", name := "value", desc := "(J)I" } : Jvm.MethodName) ({ cls := "StreamQueries", name := "value", desc := "(J)I" } : Jvm.MethodName)) ∈ lw_all := lw_g (lw_at lw_m6 137 rfl) rfl
theorem q1499 : (Jvm.Cond.code ({ cls := "StreamQueries", name := "value", desc := "(J)I" } : Jvm.MethodName) prog_1_method_8_code (3 : Nat) (Option.some Jvm.ClassFile.FieldType.int)) ∈ lw_all := lw_g (lw_at lw_m6 138 rfl) rfl
theorem q1500 : (Jvm.Cond.methodLink "StreamQueries" (117 : Nat) ({ cls := "StreamQueries$Row", name := "append", desc := "(JZI)I" } : Jvm.MethodName)) ∈ lw_all := lw_g (lw_at lw_m6 139 rfl) rfl
theorem q1502 : (Jvm.Cond.instanceMethod ({ cls := "StreamQueries", name := "nothing", desc := "()I" } : Jvm.MethodName)) ∈ lw_all := lw_g (lw_at lw_m6 141 rfl) rfl
theorem q1503 : (Jvm.Cond.selects "StreamQueries" ({ cls := "StreamQueries", name := "nothing", desc := "()I" } : Jvm.MethodName) ({ cls := "StreamQueries", name := "nothing", desc := "()I" } : Jvm.MethodName)) ∈ lw_all := lw_g (lw_at lw_m6 142 rfl) rfl
theorem q1504 : (Jvm.Cond.code ({ cls := "StreamQueries", name := "nothing", desc := "()I" } : Jvm.MethodName) prog_1_method_9_code (1 : Nat) (Option.some Jvm.ClassFile.FieldType.int)) ∈ lw_all := lw_g (lw_at lw_m6 143 rfl) rfl
theorem q1506 : (Jvm.Cond.instanceMethod ({ cls := "StreamQueries", name := "row", desc := "(IJ)I" } : Jvm.MethodName)) ∈ lw_all := lw_g (lw_at lw_m6 145 rfl) rfl
theorem q1507 : (Jvm.Cond.selects "StreamQueries" ({ cls := "StreamQueries", name := "row", desc := "(IJ)I" } : Jvm.MethodName) ({ cls := "StreamQueries", name := "row", desc := "(IJ)I" } : Jvm.MethodName)) ∈ lw_all := lw_g (lw_at lw_m6 146 rfl) rfl
theorem q1508 : (Jvm.Cond.code ({ cls := "StreamQueries", name := "row", desc := "(IJ)I" } : Jvm.MethodName) prog_1_method_10_code (7 : Nat) (Option.some Jvm.ClassFile.FieldType.int)) ∈ lw_all := lw_g (lw_at lw_m6 147 rfl) rfl
theorem q1509 : (Jvm.Cond.methodLink "StreamQueries" (121 : Nat) ({ cls := "StreamQueries$Row", name := "size", desc := "()I" } : Jvm.MethodName)) ∈ lw_all := lw_g (lw_at lw_m6 148 rfl) rfl
theorem q1510 : (Jvm.Cond.methodLink "StreamQueries" (124 : Nat) ({ cls := "StreamQueries$Row", name := "clear", desc := "()V" } : Jvm.MethodName)) ∈ lw_all := lw_g (lw_at lw_m6 149 rfl) rfl
theorem q1511 : (Jvm.Cond.methodLink "StreamQueries" (125 : Nat) ({ cls := "StreamQueries$Row", name := "take", desc := "(LStreamQueries$Row;)V" } : Jvm.MethodName)) ∈ lw_all := lw_g (lw_at lw_m6 150 rfl) rfl
theorem q1512 : (Jvm.Cond.methodLink "StreamQueries" (129 : Nat) ({ cls := "StreamQueries", name := "feed", desc := "(III)V" } : Jvm.MethodName)) ∈ lw_all := lw_g (lw_at lw_m6 151 rfl) rfl
theorem q1513 : (Jvm.Cond.privateMethod ({ cls := "StreamQueries", name := "feed", desc := "(III)V" } : Jvm.MethodName)) ∈ lw_tbl := lw_at lw_m6 152 rfl
theorem q1514 : (Jvm.Cond.instanceMethod ({ cls := "StreamQueries", name := "feed", desc := "(III)V" } : Jvm.MethodName)) ∈ lw_all := lw_g (lw_at lw_m6 153 rfl) rfl
theorem q1515 : (Jvm.Cond.code ({ cls := "StreamQueries", name := "feed", desc := "(III)V" } : Jvm.MethodName) prog_1_method_11_code (4 : Nat) (Option.none : Option Jvm.ClassFile.FieldType)) ∈ lw_all := lw_g (lw_at lw_m6 154 rfl) rfl
theorem q1517 : (Jvm.Cond.instanceMethod ({ cls := "StreamQueries", name := "back", desc := "(II)Z" } : Jvm.MethodName)) ∈ lw_all := lw_g (lw_at lw_m6 156 rfl) rfl
theorem q1518 : (Jvm.Cond.selects "StreamQueries" ({ cls := "StreamQueries", name := "back", desc := "(II)Z" } : Jvm.MethodName) ({ cls := "StreamQueries", name := "back", desc := "(II)Z" } : Jvm.MethodName)) ∈ lw_all := lw_g (lw_at lw_m6 157 rfl) rfl
theorem q1519 : (Jvm.Cond.code ({ cls := "StreamQueries", name := "back", desc := "(II)Z" } : Jvm.MethodName) prog_1_method_12_code (3 : Nat) (Option.some Jvm.ClassFile.FieldType.boolean)) ∈ lw_all := lw_g (lw_at lw_m6 158 rfl) rfl
theorem q1521 : (Jvm.Cond.instanceMethod ({ cls := "StreamQueries", name := "watermark", desc := "(J)I" } : Jvm.MethodName)) ∈ lw_all := lw_g (lw_at lw_m6 160 rfl) rfl
theorem q1522 : (Jvm.Cond.selects "StreamQueries" ({ cls := "StreamQueries", name := "watermark", desc := "(J)I" } : Jvm.MethodName) ({ cls := "StreamQueries", name := "watermark", desc := "(J)I" } : Jvm.MethodName)) ∈ lw_all := lw_g (lw_at lw_m6 161 rfl) rfl
theorem q1523 : (Jvm.Cond.code ({ cls := "StreamQueries", name := "watermark", desc := "(J)I" } : Jvm.MethodName) prog_1_method_13_code (3 : Nat) (Option.some Jvm.ClassFile.FieldType.int)) ∈ lw_all := lw_g (lw_at lw_m6 162 rfl) rfl
theorem q1524 : (Jvm.Cond.methodLink "StreamQueries" (132 : Nat) ({ cls := "StreamQueries$Plan", name := "age", desc := "(JLStreamQueries$Bag;)V" } : Jvm.MethodName)) ∈ lw_all := lw_g (lw_at lw_m6 163 rfl) rfl
theorem q1528 : (Jvm.Cond.methodLink "StreamQueries" (136 : Nat) ({ cls := "StreamQueries$Bag", name := "size", desc := "()I" } : Jvm.MethodName)) ∈ lw_all := lw_g (lw_at lw_m6 167 rfl) rfl
theorem q1530 : (Jvm.Cond.instanceMethod ({ cls := "StreamQueries", name := "changes", desc := "()I" } : Jvm.MethodName)) ∈ lw_all := lw_g (lw_at lw_m6 169 rfl) rfl
theorem q1531 : (Jvm.Cond.selects "StreamQueries" ({ cls := "StreamQueries", name := "changes", desc := "()I" } : Jvm.MethodName) ({ cls := "StreamQueries", name := "changes", desc := "()I" } : Jvm.MethodName)) ∈ lw_all := lw_g (lw_at lw_m6 170 rfl) rfl
theorem q1532 : (Jvm.Cond.code ({ cls := "StreamQueries", name := "changes", desc := "()I" } : Jvm.MethodName) prog_1_method_14_code (1 : Nat) (Option.some Jvm.ClassFile.FieldType.int)) ∈ lw_all := lw_g (lw_at lw_m6 171 rfl) rfl
theorem q1534 : (Jvm.Cond.instanceMethod ({ cls := "StreamQueries", name := "change", desc := "(I)I" } : Jvm.MethodName)) ∈ lw_all := lw_g (lw_at lw_m6 173 rfl) rfl
theorem q1535 : (Jvm.Cond.selects "StreamQueries" ({ cls := "StreamQueries", name := "change", desc := "(I)I" } : Jvm.MethodName) ({ cls := "StreamQueries", name := "change", desc := "(I)I" } : Jvm.MethodName)) ∈ lw_all := lw_g (lw_at lw_m6 174 rfl) rfl
theorem q1536 : (Jvm.Cond.code ({ cls := "StreamQueries", name := "change", desc := "(I)I" } : Jvm.MethodName) prog_1_method_16_code (2 : Nat) (Option.some Jvm.ClassFile.FieldType.int)) ∈ lw_all := lw_g (lw_at lw_m6 175 rfl) rfl
theorem q1537 : (Jvm.Cond.methodLink "StreamQueries" (137 : Nat) ({ cls := "StreamQueries$Bag", name := "times", desc := "(I)I" } : Jvm.MethodName)) ∈ lw_all := lw_g (lw_at lw_m6 176 rfl) rfl
theorem q1539 : (Jvm.Cond.instanceMethod ({ cls := "StreamQueries", name := "changed", desc := "(II)J" } : Jvm.MethodName)) ∈ lw_all := lw_g (lw_at lw_m6 178 rfl) rfl
theorem q1540 : (Jvm.Cond.selects "StreamQueries" ({ cls := "StreamQueries", name := "changed", desc := "(II)J" } : Jvm.MethodName) ({ cls := "StreamQueries", name := "changed", desc := "(II)J" } : Jvm.MethodName)) ∈ lw_all := lw_g (lw_at lw_m6 179 rfl) rfl
theorem q1541 : (Jvm.Cond.code ({ cls := "StreamQueries", name := "changed", desc := "(II)J" } : Jvm.MethodName) prog_1_method_17_code (3 : Nat) (Option.some Jvm.ClassFile.FieldType.long)) ∈ lw_all := lw_g (lw_at lw_m6 180 rfl) rfl
theorem q1542 : (Jvm.Cond.methodLink "StreamQueries" (141 : Nat) ({ cls := "StreamQueries", name := "isChange", desc := "(II)Z" } : Jvm.MethodName)) ∈ lw_all := lw_g (lw_at lw_m6 181 rfl) rfl
theorem q1543 : (Jvm.Cond.privateMethod ({ cls := "StreamQueries", name := "isChange", desc := "(II)Z" } : Jvm.MethodName)) ∈ lw_tbl := lw_at lw_m6 182 rfl
theorem q1544 : (Jvm.Cond.instanceMethod ({ cls := "StreamQueries", name := "isChange", desc := "(II)Z" } : Jvm.MethodName)) ∈ lw_all := lw_g (lw_at lw_m6 183 rfl) rfl
theorem q1545 : (Jvm.Cond.code ({ cls := "StreamQueries", name := "isChange", desc := "(II)Z" } : Jvm.MethodName) prog_1_method_15_code (3 : Nat) (Option.some Jvm.ClassFile.FieldType.boolean)) ∈ lw_all := lw_g (lw_at lw_m6 184 rfl) rfl
theorem q1546 : (Jvm.Cond.methodLink "StreamQueries" (145 : Nat) ({ cls := "StreamQueries$Bag", name := "row", desc := "(I)LStreamQueries$Row;" } : Jvm.MethodName)) ∈ lw_all := lw_g (lw_at lw_m6 185 rfl) rfl
theorem q1547 : (Jvm.Cond.methodLink "StreamQueries" (149 : Nat) ({ cls := "StreamQueries$Row", name := "value", desc := "(I)J" } : Jvm.MethodName)) ∈ lw_all := lw_g (lw_at lw_m6 186 rfl) rfl
theorem q1549 : (Jvm.Cond.instanceMethod ({ cls := "StreamQueries", name := "changedNull", desc := "(II)Z" } : Jvm.MethodName)) ∈ lw_all := lw_g (lw_at lw_m6 188 rfl) rfl
theorem q1550 : (Jvm.Cond.selects "StreamQueries" ({ cls := "StreamQueries", name := "changedNull", desc := "(II)Z" } : Jvm.MethodName) ({ cls := "StreamQueries", name := "changedNull", desc := "(II)Z" } : Jvm.MethodName)) ∈ lw_all := lw_g (lw_at lw_m6 189 rfl) rfl
theorem q1551 : (Jvm.Cond.code ({ cls := "StreamQueries", name := "changedNull", desc := "(II)Z" } : Jvm.MethodName) prog_1_method_18_code (3 : Nat) (Option.some Jvm.ClassFile.FieldType.boolean)) ∈ lw_all := lw_g (lw_at lw_m6 190 rfl) rfl
theorem q1552 : (Jvm.Cond.methodLink "StreamQueries" (153 : Nat) ({ cls := "StreamQueries$Row", name := "isNull", desc := "(I)Z" } : Jvm.MethodName)) ∈ lw_all := lw_g (lw_at lw_m6 191 rfl) rfl
theorem q1554 : (Jvm.Cond.instanceMethod ({ cls := "StreamQueries", name := "rows", desc := "()I" } : Jvm.MethodName)) ∈ lw_all := lw_g (lw_at lw_m6 193 rfl) rfl
theorem q1555 : (Jvm.Cond.selects "StreamQueries" ({ cls := "StreamQueries", name := "rows", desc := "()I" } : Jvm.MethodName) ({ cls := "StreamQueries", name := "rows", desc := "()I" } : Jvm.MethodName)) ∈ lw_all := lw_g (lw_at lw_m6 194 rfl) rfl
theorem q1556 : (Jvm.Cond.code ({ cls := "StreamQueries", name := "rows", desc := "()I" } : Jvm.MethodName) prog_1_method_19_code (1 : Nat) (Option.some Jvm.ClassFile.FieldType.int)) ∈ lw_all := lw_g (lw_at lw_m6 195 rfl) rfl
theorem q1557 : (Jvm.Cond.methodLink "StreamQueries" (157 : Nat) ({ cls := "StreamQueries$Plan", name := "rows", desc := "()I" } : Jvm.MethodName)) ∈ lw_all := lw_g (lw_at lw_m6 196 rfl) rfl
theorem q1570 : (Jvm.Cond.instanceMethod ({ cls := "StreamQueries", name := "at", desc := "(II)J" } : Jvm.MethodName)) ∈ lw_all := lw_g (lw_at lw_m6 209 rfl) rfl
theorem q1571 : (Jvm.Cond.selects "StreamQueries" ({ cls := "StreamQueries", name := "at", desc := "(II)J" } : Jvm.MethodName) ({ cls := "StreamQueries", name := "at", desc := "(II)J" } : Jvm.MethodName)) ∈ lw_all := lw_g (lw_at lw_m6 210 rfl) rfl
theorem q1572 : (Jvm.Cond.code ({ cls := "StreamQueries", name := "at", desc := "(II)J" } : Jvm.MethodName) prog_1_method_21_code (4 : Nat) (Option.some Jvm.ClassFile.FieldType.long)) ∈ lw_all := lw_g (lw_at lw_m6 211 rfl) rfl
theorem q1573 : (Jvm.Cond.methodLink "StreamQueries" (162 : Nat) ({ cls := "StreamQueries", name := "answer", desc := "(II)LStreamQueries$Row;" } : Jvm.MethodName)) ∈ lw_all := lw_g (lw_at lw_m6 212 rfl) rfl
theorem q1574 : (Jvm.Cond.privateMethod ({ cls := "StreamQueries", name := "answer", desc := "(II)LStreamQueries$Row;" } : Jvm.MethodName)) ∈ lw_tbl := lw_at lw_m6 213 rfl
theorem q1575 : (Jvm.Cond.instanceMethod ({ cls := "StreamQueries", name := "answer", desc := "(II)LStreamQueries$Row;" } : Jvm.MethodName)) ∈ lw_all := lw_g (lw_at lw_m6 214 rfl) rfl
theorem q1576 : (Jvm.Cond.code ({ cls := "StreamQueries", name := "answer", desc := "(II)LStreamQueries$Row;" } : Jvm.MethodName) prog_1_method_20_code (3 : Nat) (Option.some (Jvm.ClassFile.FieldType.object "StreamQueries$Row"))) ∈ lw_all := lw_g (lw_at lw_m6 215 rfl) rfl
theorem q1577 : (Jvm.Cond.methodLink "StreamQueries" (159 : Nat) ({ cls := "StreamQueries$Plan", name := "answer", desc := "(I)LStreamQueries$Row;" } : Jvm.MethodName)) ∈ lw_all := lw_g (lw_at lw_m6 216 rfl) rfl
theorem q1586 : (Jvm.Cond.instanceMethod ({ cls := "StreamQueries", name := "isNull", desc := "(II)Z" } : Jvm.MethodName)) ∈ lw_all := lw_g (lw_at lw_m6 225 rfl) rfl
theorem q1587 : (Jvm.Cond.selects "StreamQueries" ({ cls := "StreamQueries", name := "isNull", desc := "(II)Z" } : Jvm.MethodName) ({ cls := "StreamQueries", name := "isNull", desc := "(II)Z" } : Jvm.MethodName)) ∈ lw_all := lw_g (lw_at lw_m6 226 rfl) rfl
theorem q1588 : (Jvm.Cond.code ({ cls := "StreamQueries", name := "isNull", desc := "(II)Z" } : Jvm.MethodName) prog_1_method_22_code (4 : Nat) (Option.some Jvm.ClassFile.FieldType.boolean)) ∈ lw_all := lw_g (lw_at lw_m6 227 rfl) rfl
theorem q1590 : (Jvm.Cond.instanceMethod ({ cls := "StreamQueries", name := "type", desc := "(I)I" } : Jvm.MethodName)) ∈ lw_all := lw_g (lw_at lw_m6 229 rfl) rfl
theorem q1591 : (Jvm.Cond.selects "StreamQueries" ({ cls := "StreamQueries", name := "type", desc := "(I)I" } : Jvm.MethodName) ({ cls := "StreamQueries", name := "type", desc := "(I)I" } : Jvm.MethodName)) ∈ lw_all := lw_g (lw_at lw_m6 230 rfl) rfl
theorem q1592 : (Jvm.Cond.code ({ cls := "StreamQueries", name := "type", desc := "(I)I" } : Jvm.MethodName) prog_1_method_23_code (2 : Nat) (Option.some Jvm.ClassFile.FieldType.int)) ∈ lw_all := lw_g (lw_at lw_m6 231 rfl) rfl
theorem q1593 : (Jvm.Cond.methodLink "StreamQueries" (165 : Nat) ({ cls := "StreamQueries$Plan", name := "type", desc := "(I)I" } : Jvm.MethodName)) ∈ lw_all := lw_g (lw_at lw_m6 232 rfl) rfl
theorem q1598 : (Jvm.Cond.instanceMethod ({ cls := "StreamQueries", name := "three", desc := "(III)I" } : Jvm.MethodName)) ∈ lw_all := lw_g (lw_at lw_m6 237 rfl) rfl
theorem q1599 : (Jvm.Cond.selects "StreamQueries" ({ cls := "StreamQueries", name := "three", desc := "(III)I" } : Jvm.MethodName) ({ cls := "StreamQueries", name := "three", desc := "(III)I" } : Jvm.MethodName)) ∈ lw_all := lw_g (lw_at lw_m6 238 rfl) rfl
theorem q1600 : (Jvm.Cond.code ({ cls := "StreamQueries", name := "three", desc := "(III)I" } : Jvm.MethodName) prog_1_method_24_code (6 : Nat) (Option.some Jvm.ClassFile.FieldType.int)) ∈ lw_all := lw_g (lw_at lw_m6 239 rfl) rfl
theorem q1602 : (Jvm.Cond.instanceMethod ({ cls := "StreamQueries", name := "told", desc := "(I)I" } : Jvm.MethodName)) ∈ lw_all := lw_g (lw_at lw_m7 1 rfl) rfl
theorem q1603 : (Jvm.Cond.selects "StreamQueries" ({ cls := "StreamQueries", name := "told", desc := "(I)I" } : Jvm.MethodName) ({ cls := "StreamQueries", name := "told", desc := "(I)I" } : Jvm.MethodName)) ∈ lw_all := lw_g (lw_at lw_m7 2 rfl) rfl
theorem q1604 : (Jvm.Cond.code ({ cls := "StreamQueries", name := "told", desc := "(I)I" } : Jvm.MethodName) prog_1_method_25_code (7 : Nat) (Option.some Jvm.ClassFile.FieldType.int)) ∈ lw_all := lw_g (lw_at lw_m7 3 rfl) rfl
theorem q1605 : (Jvm.Cond.methodLink "StreamQueries" (168 : Nat) ({ cls := "StreamQueries$Plan", name := "held", desc := "()I" } : Jvm.MethodName)) ∈ lw_all := lw_g (lw_at lw_m7 4 rfl) rfl
theorem q1615 : (Jvm.Cond.methodLink "StreamQueries" (171 : Nat) ({ cls := "StreamQueries$Plan", name := "expressions", desc := "()I" } : Jvm.MethodName)) ∈ lw_all := lw_g (lw_at lw_m7 14 rfl) rfl
theorem q1623 : (Jvm.Cond.methodLink "StreamQueries" (174 : Nat) ({ cls := "StreamQueries$Plan", name := "sources", desc := "()I" } : Jvm.MethodName)) ∈ lw_all := lw_g (lw_at lw_m7 22 rfl) rfl
theorem in_X0 : ∀ w ∈ wsX00, w ∈ lw_all := lw_in wsX00 [432, 434, 436, 438, 440, 442, 444, 446, 448, 450, 452, 454, 456, 458, 460] (by decide +kernel) (by decide +kernel)
def RX1 : String := "StreamQueries$Row"
def TX1 : u_T := fun k => match k with
  | 0 => ("StreamQueries$Row", "values", "[J", true)
  | 1 => ("StreamQueries$Row", "nulls", "I", false)
  | _ => ("StreamQueries$Row", "size", "I", false)
def tyX1 : Nat → FieldType := fun k => match k with
  | 0 => .array .long
  | 1 => .int
  | _ => .int
abbrev wsX10 : List Cond := u_ws RX1 TX1 3
theorem nmX1 : ∀ a, a < 3 → ∀ b, b < 3 → a ≠ b → (TX1 a).2.1 ≠ (TX1 b).2.1 := by decide +kernel
theorem tyX1_ok : ∀ k, k < 3 → parseFieldDescriptor (TX1 k).2.2.1 = some (tyX1 k) := by decide +kernel
abbrev cX1_init : ByteArray := prog_8_method_1_code
def yX1_init : MethodName := ⟨RX1, "<init>", "()V"⟩
abbrev cX1_take : ByteArray := prog_8_method_7_code
def yX1_take : MethodName := ⟨RX1, "take", "(LStreamQueries$Row;)V"⟩
abbrev cX1_clear : ByteArray := prog_8_method_5_code
def yX1_clear : MethodName := ⟨RX1, "clear", "()V"⟩
abbrev cX1_join : ByteArray := prog_8_method_8_code
def yX1_join : MethodName := ⟨RX1, "join", "(LStreamQueries$Row;)V"⟩
abbrev cX1_isNull : ByteArray := prog_8_method_4_code
def yX1_isNull : MethodName := ⟨RX1, "isNull", "(I)Z"⟩
abbrev cX1_append : ByteArray := prog_8_method_6_code
def yX1_append : MethodName := ⟨RX1, "append", "(JZI)I"⟩
abbrev cX1_value : ByteArray := prog_8_method_3_code
def yX1_value : MethodName := ⟨RX1, "value", "(I)J"⟩
abbrev cX1_compareTo : ByteArray := prog_8_method_11_code
def yX1_compareTo : MethodName := ⟨RX1, "compareTo", "(LStreamQueries$Row;)I"⟩
abbrev cX1_compare : ByteArray := prog_8_method_10_code
def yX1_compare : MethodName := ⟨RX1, "compare", "(LStreamQueries$Row;ILStreamQueries$Row;I)I"⟩
abbrev cX1_nulls : ByteArray := prog_8_method_9_code
def yX1_nulls : MethodName := ⟨RX1, "nulls", "(I)V"⟩
abbrev cX1_size : ByteArray := prog_8_method_2_code
def yX1_size : MethodName := ⟨RX1, "size", "()I"⟩
theorem q163 : (Jvm.Cond.initialized "StreamQueries$Row") ∈ lw_all := lw_g (lw_at lw_m1 2 rfl) rfl
theorem q192 : (Jvm.Cond.instantiable "StreamQueries$Row" (3 : Nat)) ∈ lw_all := lw_g (lw_at lw_m1 31 rfl) rfl
theorem q194 : (Jvm.Cond.instanceMethod ({ cls := "StreamQueries$Row", name := "<init>", desc := "()V" } : Jvm.MethodName)) ∈ lw_all := lw_g (lw_at lw_m1 33 rfl) rfl
theorem q195 : (Jvm.Cond.code ({ cls := "StreamQueries$Row", name := "<init>", desc := "()V" } : Jvm.MethodName) prog_8_method_1_code (1 : Nat) (Option.none : Option Jvm.ClassFile.FieldType)) ∈ lw_all := lw_g (lw_at lw_m1 34 rfl) rfl
theorem q196 : (Jvm.Cond.methodLink "StreamQueries$Row" (3 : Nat) ({ cls := "java/lang/Object", name := "<init>", desc := "()V" } : Jvm.MethodName)) ∈ lw_all := lw_g (lw_at lw_m1 35 rfl) rfl
theorem q197 : (Jvm.Cond.fieldLink "StreamQueries$Row" (11 : Nat) "StreamQueries$Row" "values" "[J") ∈ lw_all := lw_g (lw_at lw_m1 36 rfl) rfl
theorem q198 : (Jvm.Cond.fieldLink "StreamQueries$Row" (19 : Nat) "StreamQueries$Row" "nulls" "I") ∈ lw_all := lw_g (lw_at lw_m1 37 rfl) rfl
theorem q199 : (Jvm.Cond.fieldLink "StreamQueries$Row" (15 : Nat) "StreamQueries$Row" "size" "I") ∈ lw_all := lw_g (lw_at lw_m1 38 rfl) rfl
theorem q200 : (Jvm.Cond.laysFinal "StreamQueries$Row" "StreamQueries$Row" "values" "[J") ∈ lw_all := lw_g (lw_at lw_m1 39 rfl) rfl
theorem q201 : (Jvm.Cond.soleField "StreamQueries$Row" "values") ∈ lw_all := lw_g (lw_at lw_m1 40 rfl) rfl
theorem q202 : (Jvm.Cond.lays "StreamQueries$Row" "StreamQueries$Row" "nulls" "I") ∈ lw_all := lw_g (lw_at lw_m1 41 rfl) rfl
theorem q203 : (Jvm.Cond.soleField "StreamQueries$Row" "nulls") ∈ lw_all := lw_g (lw_at lw_m1 42 rfl) rfl
theorem q204 : (Jvm.Cond.lays "StreamQueries$Row" "StreamQueries$Row" "size" "I") ∈ lw_all := lw_g (lw_at lw_m1 43 rfl) rfl
theorem q205 : (Jvm.Cond.soleField "StreamQueries$Row" "size") ∈ lw_all := lw_g (lw_at lw_m1 44 rfl) rfl
theorem q206 : (Jvm.Cond.superclass "StreamQueries$Row" "java/lang/Object") ∈ lw_all := lw_g (lw_at lw_m1 45 rfl) rfl
theorem q1284 : (Jvm.Cond.instanceMethod ({ cls := "StreamQueries$Row", name := "take", desc := "(LStreamQueries$Row;)V" } : Jvm.MethodName)) ∈ lw_all := lw_g (lw_at lw_m5 163 rfl) rfl
theorem q1285 : (Jvm.Cond.selects "StreamQueries$Row" ({ cls := "StreamQueries$Row", name := "take", desc := "(LStreamQueries$Row;)V" } : Jvm.MethodName) ({ cls := "StreamQueries$Row", name := "take", desc := "(LStreamQueries$Row;)V" } : Jvm.MethodName)) ∈ lw_all := lw_g (lw_at lw_m5 164 rfl) rfl
theorem q1286 : (Jvm.Cond.code ({ cls := "StreamQueries$Row", name := "take", desc := "(LStreamQueries$Row;)V" } : Jvm.MethodName) prog_8_method_7_code (2 : Nat) (Option.none : Option Jvm.ClassFile.FieldType)) ∈ lw_all := lw_g (lw_at lw_m5 165 rfl) rfl
theorem q1287 : (Jvm.Cond.methodLink "StreamQueries$Row" (22 : Nat) ({ cls := "StreamQueries$Row", name := "clear", desc := "()V" } : Jvm.MethodName)) ∈ lw_all := lw_g (lw_at lw_m5 166 rfl) rfl
theorem q1288 : (Jvm.Cond.instanceMethod ({ cls := "StreamQueries$Row", name := "clear", desc := "()V" } : Jvm.MethodName)) ∈ lw_all := lw_g (lw_at lw_m5 167 rfl) rfl
theorem q1289 : (Jvm.Cond.selects "StreamQueries$Row" ({ cls := "StreamQueries$Row", name := "clear", desc := "()V" } : Jvm.MethodName) ({ cls := "StreamQueries$Row", name := "clear", desc := "()V" } : Jvm.MethodName)) ∈ lw_all := lw_g (lw_at lw_m5 168 rfl) rfl
theorem q1290 : (Jvm.Cond.code ({ cls := "StreamQueries$Row", name := "clear", desc := "()V" } : Jvm.MethodName) prog_8_method_5_code (1 : Nat) (Option.none : Option Jvm.ClassFile.FieldType)) ∈ lw_all := lw_g (lw_at lw_m5 169 rfl) rfl
theorem q1291 : (Jvm.Cond.methodLink "StreamQueries$Row" (25 : Nat) ({ cls := "StreamQueries$Row", name := "join", desc := "(LStreamQueries$Row;)V" } : Jvm.MethodName)) ∈ lw_all := lw_g (lw_at lw_m5 170 rfl) rfl
theorem q1292 : (Jvm.Cond.instanceMethod ({ cls := "StreamQueries$Row", name := "join", desc := "(LStreamQueries$Row;)V" } : Jvm.MethodName)) ∈ lw_all := lw_g (lw_at lw_m5 171 rfl) rfl
theorem q1293 : (Jvm.Cond.selects "StreamQueries$Row" ({ cls := "StreamQueries$Row", name := "join", desc := "(LStreamQueries$Row;)V" } : Jvm.MethodName) ({ cls := "StreamQueries$Row", name := "join", desc := "(LStreamQueries$Row;)V" } : Jvm.MethodName)) ∈ lw_all := lw_g (lw_at lw_m5 172 rfl) rfl
theorem q1294 : (Jvm.Cond.code ({ cls := "StreamQueries$Row", name := "join", desc := "(LStreamQueries$Row;)V" } : Jvm.MethodName) prog_8_method_8_code (3 : Nat) (Option.none : Option Jvm.ClassFile.FieldType)) ∈ lw_all := lw_g (lw_at lw_m5 173 rfl) rfl
theorem q1295 : (Jvm.Cond.methodLink "StreamQueries$Row" (29 : Nat) ({ cls := "StreamQueries$Row", name := "isNull", desc := "(I)Z" } : Jvm.MethodName)) ∈ lw_all := lw_g (lw_at lw_m5 174 rfl) rfl
theorem q1296 : (Jvm.Cond.instanceMethod ({ cls := "StreamQueries$Row", name := "isNull", desc := "(I)Z" } : Jvm.MethodName)) ∈ lw_all := lw_g (lw_at lw_m5 175 rfl) rfl
theorem q1297 : (Jvm.Cond.selects "StreamQueries$Row" ({ cls := "StreamQueries$Row", name := "isNull", desc := "(I)Z" } : Jvm.MethodName) ({ cls := "StreamQueries$Row", name := "isNull", desc := "(I)Z" } : Jvm.MethodName)) ∈ lw_all := lw_g (lw_at lw_m5 176 rfl) rfl
theorem q1298 : (Jvm.Cond.code ({ cls := "StreamQueries$Row", name := "isNull", desc := "(I)Z" } : Jvm.MethodName) prog_8_method_4_code (2 : Nat) (Option.some Jvm.ClassFile.FieldType.boolean)) ∈ lw_all := lw_g (lw_at lw_m5 177 rfl) rfl
theorem q1299 : (Jvm.Cond.methodLink "StreamQueries$Row" (33 : Nat) ({ cls := "StreamQueries$Row", name := "append", desc := "(JZI)I" } : Jvm.MethodName)) ∈ lw_all := lw_g (lw_at lw_m5 178 rfl) rfl
theorem q1300 : (Jvm.Cond.instanceMethod ({ cls := "StreamQueries$Row", name := "append", desc := "(JZI)I" } : Jvm.MethodName)) ∈ lw_all := lw_g (lw_at lw_m5 179 rfl) rfl
theorem q1301 : (Jvm.Cond.selects "StreamQueries$Row" ({ cls := "StreamQueries$Row", name := "append", desc := "(JZI)I" } : Jvm.MethodName) ({ cls := "StreamQueries$Row", name := "append", desc := "(JZI)I" } : Jvm.MethodName)) ∈ lw_all := lw_g (lw_at lw_m5 180 rfl) rfl
theorem q1302 : (Jvm.Cond.code ({ cls := "StreamQueries$Row", name := "append", desc := "(JZI)I" } : Jvm.MethodName) prog_8_method_6_code (5 : Nat) (Option.some Jvm.ClassFile.FieldType.int)) ∈ lw_all := lw_g (lw_at lw_m5 181 rfl) rfl
theorem q1314 : (Jvm.Cond.instanceMethod ({ cls := "StreamQueries$Row", name := "value", desc := "(I)J" } : Jvm.MethodName)) ∈ lw_all := lw_g (lw_at lw_m5 193 rfl) rfl
theorem q1315 : (Jvm.Cond.selects "StreamQueries$Row" ({ cls := "StreamQueries$Row", name := "value", desc := "(I)J" } : Jvm.MethodName) ({ cls := "StreamQueries$Row", name := "value", desc := "(I)J" } : Jvm.MethodName)) ∈ lw_all := lw_g (lw_at lw_m5 194 rfl) rfl
theorem q1316 : (Jvm.Cond.code ({ cls := "StreamQueries$Row", name := "value", desc := "(I)J" } : Jvm.MethodName) prog_8_method_3_code (2 : Nat) (Option.some Jvm.ClassFile.FieldType.long)) ∈ lw_all := lw_g (lw_at lw_m5 195 rfl) rfl
theorem q1350 : (Jvm.Cond.instanceMethod ({ cls := "StreamQueries$Row", name := "compareTo", desc := "(LStreamQueries$Row;)I" } : Jvm.MethodName)) ∈ lw_all := lw_g (lw_at lw_m5 229 rfl) rfl
theorem q1351 : (Jvm.Cond.selects "StreamQueries$Row" ({ cls := "StreamQueries$Row", name := "compareTo", desc := "(LStreamQueries$Row;)I" } : Jvm.MethodName) ({ cls := "StreamQueries$Row", name := "compareTo", desc := "(LStreamQueries$Row;)I" } : Jvm.MethodName)) ∈ lw_all := lw_g (lw_at lw_m5 230 rfl) rfl
theorem q1352 : (Jvm.Cond.code ({ cls := "StreamQueries$Row", name := "compareTo", desc := "(LStreamQueries$Row;)I" } : Jvm.MethodName) prog_8_method_11_code (4 : Nat) (Option.some Jvm.ClassFile.FieldType.int)) ∈ lw_all := lw_g (lw_at lw_m5 231 rfl) rfl
theorem q1353 : (Jvm.Cond.methodLink "StreamQueries$Row" (43 : Nat) ({ cls := "StreamQueries$Row", name := "compare", desc := "(LStreamQueries$Row;ILStreamQueries$Row;I)I" } : Jvm.MethodName)) ∈ lw_all := lw_g (lw_at lw_m5 232 rfl) rfl
theorem q1354 : (Jvm.Cond.static ({ cls := "StreamQueries$Row", name := "compare", desc := "(LStreamQueries$Row;ILStreamQueries$Row;I)I" } : Jvm.MethodName)) ∈ lw_all := lw_g (lw_at lw_m5 233 rfl) rfl
theorem q1355 : (Jvm.Cond.code ({ cls := "StreamQueries$Row", name := "compare", desc := "(LStreamQueries$Row;ILStreamQueries$Row;I)I" } : Jvm.MethodName) prog_8_method_10_code (4 : Nat) (Option.some Jvm.ClassFile.FieldType.int)) ∈ lw_all := lw_g (lw_at lw_m5 234 rfl) rfl
theorem q1356 : (Jvm.Cond.methodLink "StreamQueries$Row" (37 : Nat) ({ cls := "java/lang/Long", name := "compare", desc := "(JJ)I" } : Jvm.MethodName)) ∈ lw_all := lw_g (lw_at lw_m5 235 rfl) rfl
theorem q1375 : (Jvm.Cond.instanceMethod ({ cls := "StreamQueries$Row", name := "nulls", desc := "(I)V" } : Jvm.MethodName)) ∈ lw_all := lw_g (lw_at lw_m6 14 rfl) rfl
theorem q1376 : (Jvm.Cond.selects "StreamQueries$Row" ({ cls := "StreamQueries$Row", name := "nulls", desc := "(I)V" } : Jvm.MethodName) ({ cls := "StreamQueries$Row", name := "nulls", desc := "(I)V" } : Jvm.MethodName)) ∈ lw_all := lw_g (lw_at lw_m6 15 rfl) rfl
theorem q1377 : (Jvm.Cond.code ({ cls := "StreamQueries$Row", name := "nulls", desc := "(I)V" } : Jvm.MethodName) prog_8_method_9_code (3 : Nat) (Option.none : Option Jvm.ClassFile.FieldType)) ∈ lw_all := lw_g (lw_at lw_m6 16 rfl) rfl
theorem q1423 : (Jvm.Cond.instanceMethod ({ cls := "StreamQueries$Row", name := "size", desc := "()I" } : Jvm.MethodName)) ∈ lw_all := lw_g (lw_at lw_m6 62 rfl) rfl
theorem q1424 : (Jvm.Cond.selects "StreamQueries$Row" ({ cls := "StreamQueries$Row", name := "size", desc := "()I" } : Jvm.MethodName) ({ cls := "StreamQueries$Row", name := "size", desc := "()I" } : Jvm.MethodName)) ∈ lw_all := lw_g (lw_at lw_m6 63 rfl) rfl
theorem q1425 : (Jvm.Cond.code ({ cls := "StreamQueries$Row", name := "size", desc := "()I" } : Jvm.MethodName) prog_8_method_2_code (1 : Nat) (Option.some Jvm.ClassFile.FieldType.int)) ∈ lw_all := lw_g (lw_at lw_m6 64 rfl) rfl
theorem in_X1 : ∀ w ∈ wsX10, w ∈ lw_all := lw_in wsX10 [200, 202, 204] (by decide +kernel) (by decide +kernel)
def RX2 : String := "StreamQueries$Pool"
def TX2 : u_T := fun k => match k with
  | 0 => ("StreamQueries$Pool", "rows", "[LStreamQueries$Row;", false)
  | 1 => ("StreamQueries$Pool", "size", "I", false)
  | 2 => ("StreamQueries$Pool", "keys", "[LStreamQueries$Row;", false)
  | _ => ("StreamQueries$Pool", "matches", "[I", false)
def tyX2 : Nat → FieldType := fun k => match k with
  | 0 => .array (.object "StreamQueries$Row")
  | 1 => .int
  | 2 => .array (.object "StreamQueries$Row")
  | _ => .array .int
abbrev wsX20 : List Cond := u_ws RX2 TX2 4
theorem nmX2 : ∀ a, a < 4 → ∀ b, b < 4 → a ≠ b → (TX2 a).2.1 ≠ (TX2 b).2.1 := by decide +kernel
theorem tyX2_ok : ∀ k, k < 4 → parseFieldDescriptor (TX2 k).2.2.1 = some (tyX2 k) := by decide +kernel
abbrev cX2_init : ByteArray := prog_6_method_1_code
def yX2_init : MethodName := ⟨RX2, "<init>", "()V"⟩
abbrev cX2_give : ByteArray := prog_6_method_5_code
def yX2_give : MethodName := ⟨RX2, "give", "(LStreamQueries$Row;)V"⟩
abbrev cX2_take : ByteArray := prog_6_method_4_code
def yX2_take : MethodName := ⟨RX2, "take", "()LStreamQueries$Row;"⟩
abbrev cX2_keys : ByteArray := prog_6_method_2_code
def yX2_keys : MethodName := ⟨RX2, "keys", "(I)[LStreamQueries$Row;"⟩
abbrev cX2_matches : ByteArray := prog_6_method_3_code
def yX2_matches : MethodName := ⟨RX2, "matches", "()[I"⟩
theorem q164 : (Jvm.Cond.initialized "StreamQueries$Pool") ∈ lw_all := lw_g (lw_at lw_m1 3 rfl) rfl
theorem q212 : (Jvm.Cond.instantiable "StreamQueries$Pool" (4 : Nat)) ∈ lw_all := lw_g (lw_at lw_m1 51 rfl) rfl
theorem q214 : (Jvm.Cond.instanceMethod ({ cls := "StreamQueries$Pool", name := "<init>", desc := "()V" } : Jvm.MethodName)) ∈ lw_all := lw_g (lw_at lw_m1 53 rfl) rfl
theorem q215 : (Jvm.Cond.code ({ cls := "StreamQueries$Pool", name := "<init>", desc := "()V" } : Jvm.MethodName) prog_6_method_1_code (1 : Nat) (Option.none : Option Jvm.ClassFile.FieldType)) ∈ lw_all := lw_g (lw_at lw_m1 54 rfl) rfl
theorem q216 : (Jvm.Cond.methodLink "StreamQueries$Pool" (1 : Nat) ({ cls := "java/lang/Object", name := "<init>", desc := "()V" } : Jvm.MethodName)) ∈ lw_all := lw_g (lw_at lw_m1 55 rfl) rfl
theorem q217 : (Jvm.Cond.classLink "StreamQueries$Pool" (7 : Nat) "StreamQueries$Row") ∈ lw_all := lw_g (lw_at lw_m1 56 rfl) rfl
theorem q218 : (Jvm.Cond.fieldLink "StreamQueries$Pool" (9 : Nat) "StreamQueries$Pool" "rows" "[LStreamQueries$Row;") ∈ lw_all := lw_g (lw_at lw_m1 57 rfl) rfl
theorem q219 : (Jvm.Cond.fieldLink "StreamQueries$Pool" (35 : Nat) "StreamQueries$Pool" "size" "I") ∈ lw_all := lw_g (lw_at lw_m1 58 rfl) rfl
theorem q220 : (Jvm.Cond.fieldLink "StreamQueries$Pool" (15 : Nat) "StreamQueries$Pool" "keys" "[LStreamQueries$Row;") ∈ lw_all := lw_g (lw_at lw_m1 59 rfl) rfl
theorem q221 : (Jvm.Cond.fieldLink "StreamQueries$Pool" (18 : Nat) "StreamQueries$Pool" "matches" "[I") ∈ lw_all := lw_g (lw_at lw_m1 60 rfl) rfl
theorem q222 : (Jvm.Cond.lays "StreamQueries$Pool" "StreamQueries$Pool" "rows" "[LStreamQueries$Row;") ∈ lw_all := lw_g (lw_at lw_m1 61 rfl) rfl
theorem q223 : (Jvm.Cond.soleField "StreamQueries$Pool" "rows") ∈ lw_all := lw_g (lw_at lw_m1 62 rfl) rfl
theorem q224 : (Jvm.Cond.lays "StreamQueries$Pool" "StreamQueries$Pool" "size" "I") ∈ lw_all := lw_g (lw_at lw_m1 63 rfl) rfl
theorem q225 : (Jvm.Cond.soleField "StreamQueries$Pool" "size") ∈ lw_all := lw_g (lw_at lw_m1 64 rfl) rfl
theorem q226 : (Jvm.Cond.lays "StreamQueries$Pool" "StreamQueries$Pool" "keys" "[LStreamQueries$Row;") ∈ lw_all := lw_g (lw_at lw_m1 65 rfl) rfl
theorem q227 : (Jvm.Cond.soleField "StreamQueries$Pool" "keys") ∈ lw_all := lw_g (lw_at lw_m1 66 rfl) rfl
theorem q228 : (Jvm.Cond.lays "StreamQueries$Pool" "StreamQueries$Pool" "matches" "[I") ∈ lw_all := lw_g (lw_at lw_m1 67 rfl) rfl
theorem q229 : (Jvm.Cond.soleField "StreamQueries$Pool" "matches") ∈ lw_all := lw_g (lw_at lw_m1 68 rfl) rfl
theorem q230 : (Jvm.Cond.superclass "StreamQueries$Pool" "java/lang/Object") ∈ lw_all := lw_g (lw_at lw_m1 69 rfl) rfl
theorem q488 : (Jvm.Cond.instanceMethod ({ cls := "StreamQueries$Pool", name := "give", desc := "(LStreamQueries$Row;)V" } : Jvm.MethodName)) ∈ lw_all := lw_g (lw_at lw_m2 87 rfl) rfl
theorem q489 : (Jvm.Cond.selects "StreamQueries$Pool" ({ cls := "StreamQueries$Pool", name := "give", desc := "(LStreamQueries$Row;)V" } : Jvm.MethodName) ({ cls := "StreamQueries$Pool", name := "give", desc := "(LStreamQueries$Row;)V" } : Jvm.MethodName)) ∈ lw_all := lw_g (lw_at lw_m2 88 rfl) rfl
theorem q490 : (Jvm.Cond.code ({ cls := "StreamQueries$Pool", name := "give", desc := "(LStreamQueries$Row;)V" } : Jvm.MethodName) prog_6_method_5_code (3 : Nat) (Option.none : Option Jvm.ClassFile.FieldType)) ∈ lw_all := lw_g (lw_at lw_m2 89 rfl) rfl
theorem q491 : (Jvm.Cond.methodLink "StreamQueries$Pool" (28 : Nat) ({ cls := "java/lang/System", name := "arraycopy", desc := "(Ljava/lang/Object;ILjava/lang/Object;II)V" } : Jvm.MethodName)) ∈ lw_all := lw_g (lw_at lw_m2 90 rfl) rfl
theorem q1369 : (Jvm.Cond.instanceMethod ({ cls := "StreamQueries$Pool", name := "take", desc := "()LStreamQueries$Row;" } : Jvm.MethodName)) ∈ lw_all := lw_g (lw_at lw_m6 8 rfl) rfl
theorem q1370 : (Jvm.Cond.selects "StreamQueries$Pool" ({ cls := "StreamQueries$Pool", name := "take", desc := "()LStreamQueries$Row;" } : Jvm.MethodName) ({ cls := "StreamQueries$Pool", name := "take", desc := "()LStreamQueries$Row;" } : Jvm.MethodName)) ∈ lw_all := lw_g (lw_at lw_m6 9 rfl) rfl
theorem q1371 : (Jvm.Cond.code ({ cls := "StreamQueries$Pool", name := "take", desc := "()LStreamQueries$Row;" } : Jvm.MethodName) prog_6_method_4_code (1 : Nat) (Option.some (Jvm.ClassFile.FieldType.object "StreamQueries$Row"))) ∈ lw_all := lw_g (lw_at lw_m6 10 rfl) rfl
theorem q1372 : (Jvm.Cond.methodLinkNest "StreamQueries$Pool" (34 : Nat) ({ cls := "StreamQueries$Row", name := "<init>", desc := "()V" } : Jvm.MethodName) "StreamQueries") ∈ lw_tbl := lw_at lw_m6 11 rfl
theorem q1402 : (Jvm.Cond.instanceMethod ({ cls := "StreamQueries$Pool", name := "keys", desc := "(I)[LStreamQueries$Row;" } : Jvm.MethodName)) ∈ lw_all := lw_g (lw_at lw_m6 41 rfl) rfl
theorem q1403 : (Jvm.Cond.selects "StreamQueries$Pool" ({ cls := "StreamQueries$Pool", name := "keys", desc := "(I)[LStreamQueries$Row;" } : Jvm.MethodName) ({ cls := "StreamQueries$Pool", name := "keys", desc := "(I)[LStreamQueries$Row;" } : Jvm.MethodName)) ∈ lw_all := lw_g (lw_at lw_m6 42 rfl) rfl
theorem q1404 : (Jvm.Cond.code ({ cls := "StreamQueries$Pool", name := "keys", desc := "(I)[LStreamQueries$Row;" } : Jvm.MethodName) prog_6_method_2_code (5 : Nat) (Option.some (Jvm.ClassFile.FieldType.array (Jvm.ClassFile.FieldType.object "StreamQueries$Row")))) ∈ lw_all := lw_g (lw_at lw_m6 43 rfl) rfl
theorem q1405 : (Jvm.Cond.methodLink "StreamQueries$Pool" (22 : Nat) ({ cls := "java/lang/Math", name := "max", desc := "(II)I" } : Jvm.MethodName)) ∈ lw_all := lw_g (lw_at lw_m6 44 rfl) rfl
theorem q1407 : (Jvm.Cond.instanceMethod ({ cls := "StreamQueries$Pool", name := "matches", desc := "()[I" } : Jvm.MethodName)) ∈ lw_all := lw_g (lw_at lw_m6 46 rfl) rfl
theorem q1408 : (Jvm.Cond.selects "StreamQueries$Pool" ({ cls := "StreamQueries$Pool", name := "matches", desc := "()[I" } : Jvm.MethodName) ({ cls := "StreamQueries$Pool", name := "matches", desc := "()[I" } : Jvm.MethodName)) ∈ lw_all := lw_g (lw_at lw_m6 47 rfl) rfl
theorem q1409 : (Jvm.Cond.code ({ cls := "StreamQueries$Pool", name := "matches", desc := "()[I" } : Jvm.MethodName) prog_6_method_3_code (1 : Nat) (Option.some (Jvm.ClassFile.FieldType.array Jvm.ClassFile.FieldType.int))) ∈ lw_all := lw_g (lw_at lw_m6 48 rfl) rfl
theorem in_X2 : ∀ w ∈ wsX20, w ∈ lw_all := lw_in wsX20 [222, 224, 226, 228] (by decide +kernel) (by decide +kernel)
def RX3 : String := "StreamQueries$Plan"
def TX3 : u_T := fun k => match k with
  | 0 => ("StreamQueries$Plan", "t", "LStreamQueries$Tokens;", true)
  | 1 => ("StreamQueries$Plan", "e", "LStreamQueries$Expressions;", true)
  | 2 => ("StreamQueries$Plan", "at", "I", false)
  | 3 => ("StreamQueries$Plan", "fault", "I", false)
  | 4 => ("StreamQueries$Plan", "place", "I", false)
  | 5 => ("StreamQueries$Plan", "deep", "I", false)
  | 6 => ("StreamQueries$Plan", "sources", "I", false)
  | 7 => ("StreamQueries$Plan", "isUnbounded", "Z", false)
  | 8 => ("StreamQueries$Plan", "columnsOf", "[I", false)
  | 9 => ("StreamQueries$Plan", "streams", "I", false)
  | 10 => ("StreamQueries$Plan", "query", "LStreamQueries$Query;", false)
  | 11 => ("StreamQueries$Plan", "root", "LStreamQueries$Node;", false)
  | 12 => ("StreamQueries$Plan", "watermark", "J", false)
  | 13 => ("StreamQueries$Plan", "reading", "LStreamQueries$Select;", false)
  | 14 => ("StreamQueries$Plan", "mayAggregate", "Z", false)
  | 15 => ("StreamQueries$Plan", "pool", "LStreamQueries$Pool;", true)
  | 16 => ("StreamQueries$Plan", "nodes", "[LStreamQueries$Node;", false)
  | 17 => ("StreamQueries$Plan", "nodeMany", "I", false)
  | 18 => ("StreamQueries$Plan", "queries", "[LStreamQueries$Query;", false)
  | 19 => ("StreamQueries$Plan", "queryMany", "I", false)
  | 20 => ("StreamQueries$Plan", "selects", "[LStreamQueries$Select;", false)
  | _ => ("StreamQueries$Plan", "selectMany", "I", false)
def tyX3 : Nat → FieldType := fun k => match k with
  | 0 => .object "StreamQueries$Tokens"
  | 1 => .object "StreamQueries$Expressions"
  | 2 => .int
  | 3 => .int
  | 4 => .int
  | 5 => .int
  | 6 => .int
  | 7 => .boolean
  | 8 => .array .int
  | 9 => .int
  | 10 => .object "StreamQueries$Query"
  | 11 => .object "StreamQueries$Node"
  | 12 => .long
  | 13 => .object "StreamQueries$Select"
  | 14 => .boolean
  | 15 => .object "StreamQueries$Pool"
  | 16 => .array (.object "StreamQueries$Node")
  | 17 => .int
  | 18 => .array (.object "StreamQueries$Query")
  | 19 => .int
  | 20 => .array (.object "StreamQueries$Select")
  | _ => .int
abbrev wsX30 : List Cond := u_ws RX3 TX3 22
theorem nmX3 : ∀ a, a < 22 → ∀ b, b < 22 → a ≠ b → (TX3 a).2.1 ≠ (TX3 b).2.1 := by decide +kernel
theorem tyX3_ok : ∀ k, k < 22 → parseFieldDescriptor (TX3 k).2.2.1 = some (tyX3 k) := by decide +kernel
abbrev cX3_init : ByteArray := prog_5_method_1_code
def yX3_init : MethodName := ⟨RX3, "<init>", "(LStreamQueries$Pool;)V"⟩
abbrev cX3_read : ByteArray := prog_5_method_20_code
def yX3_read : MethodName := ⟨RX3, "read", "([BI[II)V"⟩
abbrev cX3_drop : ByteArray := prog_5_method_19_code
def yX3_drop : MethodName := ⟨RX3, "drop", "()V"⟩
abbrev cX3_eats : ByteArray := prog_5_method_11_code
def yX3_eats : MethodName := ⟨RX3, "eats", "(Ljava/lang/String;)Z"⟩
abbrev cX3_is : ByteArray := prog_5_method_10_code
def yX3_is : MethodName := ⟨RX3, "is", "(Ljava/lang/String;)Z"⟩
abbrev cX3_good : ByteArray := prog_5_method_7_code
def yX3_good : MethodName := ⟨RX3, "good", "()Z"⟩
abbrev cX3_readQuery : ByteArray := prog_5_method_21_code
def yX3_readQuery : MethodName := ⟨RX3, "readQuery", "()LStreamQueries$Query;"⟩
abbrev cX3_newQuery : ByteArray := prog_5_method_3_code
def yX3_newQuery : MethodName := ⟨RX3, "newQuery", "()LStreamQueries$Query;"⟩
abbrev cX3_readSelect : ByteArray := prog_5_method_22_code
def yX3_readSelect : MethodName := ⟨RX3, "readSelect", "()LStreamQueries$Select;"⟩
abbrev cX3_newSelect : ByteArray := prog_5_method_4_code
def yX3_newSelect : MethodName := ⟨RX3, "newSelect", "()LStreamQueries$Select;"⟩
abbrev cX3_want : ByteArray := prog_5_method_12_code
def yX3_want : MethodName := ⟨RX3, "want", "(Ljava/lang/String;)V"⟩
abbrev cX3_failToken : ByteArray := prog_5_method_9_code
def yX3_failToken : MethodName := ⟨RX3, "failToken", "()V"⟩
abbrev cX3_fail : ByteArray := prog_5_method_8_code
def yX3_fail : MethodName := ⟨RX3, "fail", "(II)V"⟩
abbrev cX3_begins : ByteArray := prog_5_method_15_code
def yX3_begins : MethodName := ⟨RX3, "begins", "()Z"⟩
abbrev cX3_beginsSum : ByteArray := prog_5_method_16_code
def yX3_beginsSum : MethodName := ⟨RX3, "beginsSum", "()Z"⟩
abbrev cX3_readExpression : ByteArray := prog_5_method_26_code
def yX3_readExpression : MethodName := ⟨RX3, "readExpression", "()I"⟩
abbrev cX3_readAnd : ByteArray := prog_5_method_27_code
def yX3_readAnd : MethodName := ⟨RX3, "readAnd", "()I"⟩
abbrev cX3_readNot : ByteArray := prog_5_method_28_code
def yX3_readNot : MethodName := ⟨RX3, "readNot", "()I"⟩
abbrev cX3_readTest : ByteArray := prog_5_method_30_code
def yX3_readTest : MethodName := ⟨RX3, "readTest", "()I"⟩
abbrev cX3_readSum : ByteArray := prog_5_method_31_code
def yX3_readSum : MethodName := ⟨RX3, "readSum", "()I"⟩
abbrev cX3_readPart : ByteArray := prog_5_method_32_code
def yX3_readPart : MethodName := ⟨RX3, "readPart", "()I"⟩
abbrev cX3_readSign : ByteArray := prog_5_method_33_code
def yX3_readSign : MethodName := ⟨RX3, "readSign", "()I"⟩
abbrev cX3_readOne : ByteArray := prog_5_method_34_code
def yX3_readOne : MethodName := ⟨RX3, "readOne", "()I"⟩
abbrev cX3_node : ByteArray := prog_5_method_18_code
def yX3_node : MethodName := ⟨RX3, "node", "(IIIII)I"⟩
abbrev cX3_readColumn : ByteArray := prog_5_method_35_code
def yX3_readColumn : MethodName := ⟨RX3, "readColumn", "()I"⟩
abbrev cX3_opens : ByteArray := prog_5_method_14_code
def yX3_opens : MethodName := ⟨RX3, "opens", "()Z"⟩
abbrev cX3_readCase : ByteArray := prog_5_method_36_code
def yX3_readCase : MethodName := ⟨RX3, "readCase", "()I"⟩
abbrev cX3_readSpan : ByteArray := prog_5_method_37_code
def yX3_readSpan : MethodName := ⟨RX3, "readSpan", "()I"⟩
abbrev cX3_readAggregate : ByteArray := prog_5_method_38_code
def yX3_readAggregate : MethodName := ⟨RX3, "readAggregate", "()I"⟩
abbrev cX3_between : ByteArray := prog_5_method_17_code
def yX3_between : MethodName := ⟨RX3, "between", "(IIIII)I"⟩
abbrev cX3_comparison : ByteArray := prog_5_method_29_code
def yX3_comparison : MethodName := ⟨RX3, "comparison", "()I"⟩
abbrev cX3_wantName : ByteArray := prog_5_method_13_code
def yX3_wantName : MethodName := ⟨RX3, "wantName", "()I"⟩
abbrev cX3_isAlone : ByteArray := prog_5_method_23_code
def yX3_isAlone : MethodName := ⟨RX3, "isAlone", "(I)Z"⟩
abbrev cX3_lastOf : ByteArray := prog_5_method_24_code
def yX3_lastOf : MethodName := ⟨RX3, "lastOf", "(I)I"⟩
abbrev cX3_readSource : ByteArray := prog_5_method_25_code
def yX3_readSource : MethodName := ⟨RX3, "readSource", "(LStreamQueries$Select;IZ)V"⟩
abbrev cX3_query : ByteArray := prog_5_method_40_code
def yX3_query : MethodName := ⟨RX3, "query", "(LStreamQueries$Query;)LStreamQueries$Node;"⟩
abbrev cX3_select : ByteArray := prog_5_method_42_code
def yX3_select : MethodName := ⟨RX3, "select", "(LStreamQueries$Select;)LStreamQueries$Node;"⟩
abbrev cX3_source : ByteArray := prog_5_method_44_code
def yX3_source : MethodName := ⟨RX3, "source", "(LStreamQueries$Select;I)LStreamQueries$Node;"⟩
abbrev cX3_make : ByteArray := prog_5_method_2_code
def yX3_make : MethodName := ⟨RX3, "make", "(ILStreamQueries$Node;LStreamQueries$Node;)LStreamQueries$Node;"⟩
abbrev cX3_isSame : ByteArray := prog_5_method_39_code
def yX3_isSame : MethodName := ⟨RX3, "isSame", "(II)Z"⟩
abbrev cX3_bounded : ByteArray := prog_5_method_41_code
def yX3_bounded : MethodName := ⟨RX3, "bounded", "(ZI)V"⟩
abbrev cX3_truth : ByteArray := prog_5_method_45_code
def yX3_truth : MethodName := ⟨RX3, "truth", "(ILStreamQueries$Select;I)V"⟩
abbrev cX3_check : ByteArray := prog_5_method_48_code
def yX3_check : MethodName := ⟨RX3, "check", "(ILStreamQueries$Select;LStreamQueries$Query;I)V"⟩
abbrev cX3_column : ByteArray := prog_5_method_50_code
def yX3_column : MethodName := ⟨RX3, "column", "(ILStreamQueries$Select;LStreamQueries$Query;I)V"⟩
abbrev cX3_columnOf : ByteArray := prog_5_method_51_code
def yX3_columnOf : MethodName := ⟨RX3, "columnOf", "(LStreamQueries$Select;II)I"⟩
abbrev cX3_wants : ByteArray := prog_5_method_46_code
def yX3_wants : MethodName := ⟨RX3, "wants", "(II)V"⟩
abbrev cX3_start : ByteArray := prog_5_method_47_code
def yX3_start : MethodName := ⟨RX3, "start", "(I)I"⟩
abbrev cX3_aggregate : ByteArray := prog_5_method_49_code
def yX3_aggregate : MethodName := ⟨RX3, "aggregate", "(ILStreamQueries$Select;)V"⟩
abbrev cX3_filter : ByteArray := prog_5_method_43_code
def yX3_filter : MethodName := ⟨RX3, "filter", "(LStreamQueries$Node;I)LStreamQueries$Node;"⟩
abbrev cX3_fault : ByteArray := prog_5_method_5_code
def yX3_fault : MethodName := ⟨RX3, "fault", "()I"⟩
abbrev cX3_place : ByteArray := prog_5_method_6_code
def yX3_place : MethodName := ⟨RX3, "place", "()I"⟩
abbrev cX3_start_2 : ByteArray := prog_5_method_59_code
def yX3_start_2 : MethodName := ⟨RX3, "start", "(J)V"⟩
abbrev cX3_feed : ByteArray := prog_5_method_60_code
def yX3_feed : MethodName := ⟨RX3, "feed", "(ILStreamQueries$Bag;LStreamQueries$Bag;)V"⟩
abbrev cX3_columns : ByteArray := prog_5_method_52_code
def yX3_columns : MethodName := ⟨RX3, "columns", "()I"⟩
abbrev cX3_age : ByteArray := prog_5_method_61_code
def yX3_age : MethodName := ⟨RX3, "age", "(JLStreamQueries$Bag;)V"⟩
abbrev cX3_rows : ByteArray := prog_5_method_54_code
def yX3_rows : MethodName := ⟨RX3, "rows", "()I"⟩
abbrev cX3_answer : ByteArray := prog_5_method_55_code
def yX3_answer : MethodName := ⟨RX3, "answer", "(I)LStreamQueries$Row;"⟩
abbrev cX3_type : ByteArray := prog_5_method_53_code
def yX3_type : MethodName := ⟨RX3, "type", "(I)I"⟩
abbrev cX3_held : ByteArray := prog_5_method_58_code
def yX3_held : MethodName := ⟨RX3, "held", "()I"⟩
abbrev cX3_expressions : ByteArray := prog_5_method_56_code
def yX3_expressions : MethodName := ⟨RX3, "expressions", "()I"⟩
abbrev cX3_sources : ByteArray := prog_5_method_57_code
def yX3_sources : MethodName := ⟨RX3, "sources", "()I"⟩
theorem q165 : (Jvm.Cond.initialized "StreamQueries$Plan") ∈ lw_all := lw_g (lw_at lw_m1 4 rfl) rfl
theorem q232 : (Jvm.Cond.instantiable "StreamQueries$Plan" (22 : Nat)) ∈ lw_all := lw_g (lw_at lw_m1 71 rfl) rfl
theorem q234 : (Jvm.Cond.instanceMethod ({ cls := "StreamQueries$Plan", name := "<init>", desc := "(LStreamQueries$Pool;)V" } : Jvm.MethodName)) ∈ lw_all := lw_g (lw_at lw_m1 73 rfl) rfl
theorem q235 : (Jvm.Cond.code ({ cls := "StreamQueries$Plan", name := "<init>", desc := "(LStreamQueries$Pool;)V" } : Jvm.MethodName) prog_5_method_1_code (2 : Nat) (Option.none : Option Jvm.ClassFile.FieldType)) ∈ lw_all := lw_g (lw_at lw_m1 74 rfl) rfl
theorem q236 : (Jvm.Cond.methodLink "StreamQueries$Plan" (3 : Nat) ({ cls := "java/lang/Object", name := "<init>", desc := "()V" } : Jvm.MethodName)) ∈ lw_all := lw_g (lw_at lw_m1 75 rfl) rfl
theorem q237 : (Jvm.Cond.classLink "StreamQueries$Plan" (9 : Nat) "StreamQueries$Tokens") ∈ lw_all := lw_g (lw_at lw_m1 76 rfl) rfl
theorem q239 : (Jvm.Cond.methodLinkNest "StreamQueries$Plan" (11 : Nat) ({ cls := "StreamQueries$Tokens", name := "<init>", desc := "()V" } : Jvm.MethodName) "StreamQueries") ∈ lw_tbl := lw_at lw_m1 78 rfl
theorem q265 : (Jvm.Cond.classLink "StreamQueries$Plan" (18 : Nat) "StreamQueries$Expressions") ∈ lw_all := lw_g (lw_at lw_m1 104 rfl) rfl
theorem q267 : (Jvm.Cond.methodLinkNest "StreamQueries$Plan" (20 : Nat) ({ cls := "StreamQueries$Expressions", name := "<init>", desc := "()V" } : Jvm.MethodName) "StreamQueries") ∈ lw_tbl := lw_at lw_m1 106 rfl
theorem q273 : (Jvm.Cond.fieldLinkNest "StreamQueries$Plan" (294 : Nat) "StreamQueries$Expressions" "acts" "[I" "StreamQueries") ∈ lw_tbl := lw_at lw_m1 112 rfl
theorem q276 : (Jvm.Cond.fieldLinkNest "StreamQueries$Plan" (345 : Nat) "StreamQueries$Expressions" "firsts" "[I" "StreamQueries") ∈ lw_tbl := lw_at lw_m1 115 rfl
theorem q279 : (Jvm.Cond.fieldLinkNest "StreamQueries$Plan" (342 : Nat) "StreamQueries$Expressions" "seconds" "[I" "StreamQueries") ∈ lw_tbl := lw_at lw_m1 118 rfl
theorem q281 : (Jvm.Cond.fieldLinkNest "StreamQueries$Plan" (577 : Nat) "StreamQueries$Expressions" "thirds" "[I" "StreamQueries") ∈ lw_tbl := lw_at lw_m1 120 rfl
theorem q283 : (Jvm.Cond.fieldLinkNest "StreamQueries$Plan" (421 : Nat) "StreamQueries$Expressions" "nexts" "[I" "StreamQueries") ∈ lw_tbl := lw_at lw_m1 122 rfl
theorem q285 : (Jvm.Cond.fieldLinkNest "StreamQueries$Plan" (441 : Nat) "StreamQueries$Expressions" "numbers" "[J" "StreamQueries") ∈ lw_tbl := lw_at lw_m1 124 rfl
theorem q287 : (Jvm.Cond.fieldLinkNest "StreamQueries$Plan" (339 : Nat) "StreamQueries$Expressions" "tokens" "[I" "StreamQueries") ∈ lw_tbl := lw_at lw_m1 126 rfl
theorem q289 : (Jvm.Cond.fieldLinkNest "StreamQueries$Plan" (551 : Nat) "StreamQueries$Expressions" "types" "[I" "StreamQueries") ∈ lw_tbl := lw_at lw_m1 128 rfl
theorem q291 : (Jvm.Cond.fieldLinkNest "StreamQueries$Plan" (568 : Nat) "StreamQueries$Expressions" "isFree" "[Z" "StreamQueries") ∈ lw_tbl := lw_at lw_m1 130 rfl
theorem q293 : (Jvm.Cond.fieldLinkNest "StreamQueries$Plan" (583 : Nat) "StreamQueries$Expressions" "slots" "[I" "StreamQueries") ∈ lw_tbl := lw_at lw_m1 132 rfl
theorem q295 : (Jvm.Cond.fieldLinkNest "StreamQueries$Plan" (156 : Nat) "StreamQueries$Expressions" "begins" "[I" "StreamQueries") ∈ lw_tbl := lw_at lw_m1 134 rfl
theorem q324 : (Jvm.Cond.classLink "StreamQueries$Plan" (25 : Nat) "StreamQueries$Node") ∈ lw_all := lw_g (lw_at lw_m1 163 rfl) rfl
theorem q326 : (Jvm.Cond.classLink "StreamQueries$Plan" (31 : Nat) "StreamQueries$Query") ∈ lw_all := lw_g (lw_at lw_m1 165 rfl) rfl
theorem q328 : (Jvm.Cond.classLink "StreamQueries$Plan" (37 : Nat) "StreamQueries$Select") ∈ lw_all := lw_g (lw_at lw_m1 167 rfl) rfl
theorem q330 : (Jvm.Cond.fieldLink "StreamQueries$Plan" (12 : Nat) "StreamQueries$Plan" "t" "LStreamQueries$Tokens;") ∈ lw_all := lw_g (lw_at lw_m1 169 rfl) rfl
theorem q331 : (Jvm.Cond.fieldLink "StreamQueries$Plan" (21 : Nat) "StreamQueries$Plan" "e" "LStreamQueries$Expressions;") ∈ lw_all := lw_g (lw_at lw_m1 170 rfl) rfl
theorem q332 : (Jvm.Cond.fieldLink "StreamQueries$Plan" (82 : Nat) "StreamQueries$Plan" "at" "I") ∈ lw_all := lw_g (lw_at lw_m1 171 rfl) rfl
theorem q333 : (Jvm.Cond.fieldLink "StreamQueries$Plan" (76 : Nat) "StreamQueries$Plan" "fault" "I") ∈ lw_all := lw_g (lw_at lw_m1 172 rfl) rfl
theorem q334 : (Jvm.Cond.fieldLink "StreamQueries$Plan" (79 : Nat) "StreamQueries$Plan" "place" "I") ∈ lw_all := lw_g (lw_at lw_m1 173 rfl) rfl
theorem q335 : (Jvm.Cond.fieldLink "StreamQueries$Plan" (113 : Nat) "StreamQueries$Plan" "deep" "I") ∈ lw_all := lw_g (lw_at lw_m1 174 rfl) rfl
theorem q336 : (Jvm.Cond.fieldLink "StreamQueries$Plan" (177 : Nat) "StreamQueries$Plan" "sources" "I") ∈ lw_all := lw_g (lw_at lw_m1 175 rfl) rfl
theorem q337 : (Jvm.Cond.fieldLink "StreamQueries$Plan" (192 : Nat) "StreamQueries$Plan" "isUnbounded" "Z") ∈ lw_all := lw_g (lw_at lw_m1 176 rfl) rfl
theorem q338 : (Jvm.Cond.fieldLink "StreamQueries$Plan" (180 : Nat) "StreamQueries$Plan" "columnsOf" "[I") ∈ lw_all := lw_g (lw_at lw_m1 177 rfl) rfl
theorem q339 : (Jvm.Cond.fieldLink "StreamQueries$Plan" (183 : Nat) "StreamQueries$Plan" "streams" "I") ∈ lw_all := lw_g (lw_at lw_m1 178 rfl) rfl
theorem q340 : (Jvm.Cond.fieldLink "StreamQueries$Plan" (199 : Nat) "StreamQueries$Plan" "query" "LStreamQueries$Query;") ∈ lw_all := lw_g (lw_at lw_m1 179 rfl) rfl
theorem q341 : (Jvm.Cond.fieldLink "StreamQueries$Plan" (209 : Nat) "StreamQueries$Plan" "root" "LStreamQueries$Node;") ∈ lw_all := lw_g (lw_at lw_m1 180 rfl) rfl
theorem q342 : (Jvm.Cond.fieldLink "StreamQueries$Plan" (608 : Nat) "StreamQueries$Plan" "watermark" "J") ∈ lw_all := lw_g (lw_at lw_m1 181 rfl) rfl
theorem q343 : (Jvm.Cond.fieldLink "StreamQueries$Plan" (186 : Nat) "StreamQueries$Plan" "reading" "LStreamQueries$Select;") ∈ lw_all := lw_g (lw_at lw_m1 182 rfl) rfl
theorem q344 : (Jvm.Cond.fieldLink "StreamQueries$Plan" (148 : Nat) "StreamQueries$Plan" "mayAggregate" "Z") ∈ lw_all := lw_g (lw_at lw_m1 183 rfl) rfl
theorem q345 : (Jvm.Cond.fieldLink "StreamQueries$Plan" (43 : Nat) "StreamQueries$Plan" "pool" "LStreamQueries$Pool;") ∈ lw_all := lw_g (lw_at lw_m1 184 rfl) rfl
theorem q346 : (Jvm.Cond.fieldLink "StreamQueries$Plan" (27 : Nat) "StreamQueries$Plan" "nodes" "[LStreamQueries$Node;") ∈ lw_all := lw_g (lw_at lw_m1 185 rfl) rfl
theorem q347 : (Jvm.Cond.fieldLink "StreamQueries$Plan" (47 : Nat) "StreamQueries$Plan" "nodeMany" "I") ∈ lw_all := lw_g (lw_at lw_m1 186 rfl) rfl
theorem q348 : (Jvm.Cond.fieldLink "StreamQueries$Plan" (33 : Nat) "StreamQueries$Plan" "queries" "[LStreamQueries$Query;") ∈ lw_all := lw_g (lw_at lw_m1 187 rfl) rfl
theorem q349 : (Jvm.Cond.fieldLink "StreamQueries$Plan" (64 : Nat) "StreamQueries$Plan" "queryMany" "I") ∈ lw_all := lw_g (lw_at lw_m1 188 rfl) rfl
theorem q350 : (Jvm.Cond.fieldLink "StreamQueries$Plan" (39 : Nat) "StreamQueries$Plan" "selects" "[LStreamQueries$Select;") ∈ lw_all := lw_g (lw_at lw_m1 189 rfl) rfl
theorem q351 : (Jvm.Cond.fieldLink "StreamQueries$Plan" (71 : Nat) "StreamQueries$Plan" "selectMany" "I") ∈ lw_all := lw_g (lw_at lw_m1 190 rfl) rfl
theorem q352 : (Jvm.Cond.laysFinal "StreamQueries$Plan" "StreamQueries$Plan" "t" "LStreamQueries$Tokens;") ∈ lw_all := lw_g (lw_at lw_m1 191 rfl) rfl
theorem q353 : (Jvm.Cond.soleField "StreamQueries$Plan" "t") ∈ lw_all := lw_g (lw_at lw_m1 192 rfl) rfl
theorem q354 : (Jvm.Cond.laysFinal "StreamQueries$Plan" "StreamQueries$Plan" "e" "LStreamQueries$Expressions;") ∈ lw_all := lw_g (lw_at lw_m1 193 rfl) rfl
theorem q355 : (Jvm.Cond.soleField "StreamQueries$Plan" "e") ∈ lw_all := lw_g (lw_at lw_m1 194 rfl) rfl
theorem q356 : (Jvm.Cond.lays "StreamQueries$Plan" "StreamQueries$Plan" "at" "I") ∈ lw_all := lw_g (lw_at lw_m1 195 rfl) rfl
theorem q357 : (Jvm.Cond.soleField "StreamQueries$Plan" "at") ∈ lw_all := lw_g (lw_at lw_m1 196 rfl) rfl
theorem q358 : (Jvm.Cond.lays "StreamQueries$Plan" "StreamQueries$Plan" "fault" "I") ∈ lw_all := lw_g (lw_at lw_m1 197 rfl) rfl
theorem q359 : (Jvm.Cond.soleField "StreamQueries$Plan" "fault") ∈ lw_all := lw_g (lw_at lw_m1 198 rfl) rfl
theorem q360 : (Jvm.Cond.lays "StreamQueries$Plan" "StreamQueries$Plan" "place" "I") ∈ lw_all := lw_g (lw_at lw_m1 199 rfl) rfl
theorem q361 : (Jvm.Cond.soleField "StreamQueries$Plan" "place") ∈ lw_all := lw_g (lw_at lw_m1 200 rfl) rfl
theorem q362 : (Jvm.Cond.lays "StreamQueries$Plan" "StreamQueries$Plan" "deep" "I") ∈ lw_all := lw_g (lw_at lw_m1 201 rfl) rfl
theorem q363 : (Jvm.Cond.soleField "StreamQueries$Plan" "deep") ∈ lw_all := lw_g (lw_at lw_m1 202 rfl) rfl
theorem q364 : (Jvm.Cond.lays "StreamQueries$Plan" "StreamQueries$Plan" "sources" "I") ∈ lw_all := lw_g (lw_at lw_m1 203 rfl) rfl
theorem q365 : (Jvm.Cond.soleField "StreamQueries$Plan" "sources") ∈ lw_all := lw_g (lw_at lw_m1 204 rfl) rfl
theorem q366 : (Jvm.Cond.lays "StreamQueries$Plan" "StreamQueries$Plan" "isUnbounded" "Z") ∈ lw_all := lw_g (lw_at lw_m1 205 rfl) rfl
theorem q367 : (Jvm.Cond.soleField "StreamQueries$Plan" "isUnbounded") ∈ lw_all := lw_g (lw_at lw_m1 206 rfl) rfl
theorem q368 : (Jvm.Cond.lays "StreamQueries$Plan" "StreamQueries$Plan" "columnsOf" "[I") ∈ lw_all := lw_g (lw_at lw_m1 207 rfl) rfl
theorem q369 : (Jvm.Cond.soleField "StreamQueries$Plan" "columnsOf") ∈ lw_all := lw_g (lw_at lw_m1 208 rfl) rfl
theorem q370 : (Jvm.Cond.lays "StreamQueries$Plan" "StreamQueries$Plan" "streams" "I") ∈ lw_all := lw_g (lw_at lw_m1 209 rfl) rfl
theorem q371 : (Jvm.Cond.soleField "StreamQueries$Plan" "streams") ∈ lw_all := lw_g (lw_at lw_m1 210 rfl) rfl
theorem q372 : (Jvm.Cond.lays "StreamQueries$Plan" "StreamQueries$Plan" "query" "LStreamQueries$Query;") ∈ lw_all := lw_g (lw_at lw_m1 211 rfl) rfl
theorem q373 : (Jvm.Cond.soleField "StreamQueries$Plan" "query") ∈ lw_all := lw_g (lw_at lw_m1 212 rfl) rfl
theorem q374 : (Jvm.Cond.lays "StreamQueries$Plan" "StreamQueries$Plan" "root" "LStreamQueries$Node;") ∈ lw_all := lw_g (lw_at lw_m1 213 rfl) rfl
theorem q375 : (Jvm.Cond.soleField "StreamQueries$Plan" "root") ∈ lw_all := lw_g (lw_at lw_m1 214 rfl) rfl
theorem q376 : (Jvm.Cond.lays "StreamQueries$Plan" "StreamQueries$Plan" "watermark" "J") ∈ lw_all := lw_g (lw_at lw_m1 215 rfl) rfl
theorem q377 : (Jvm.Cond.soleField "StreamQueries$Plan" "watermark") ∈ lw_all := lw_g (lw_at lw_m1 216 rfl) rfl
theorem q378 : (Jvm.Cond.lays "StreamQueries$Plan" "StreamQueries$Plan" "reading" "LStreamQueries$Select;") ∈ lw_all := lw_g (lw_at lw_m1 217 rfl) rfl
theorem q379 : (Jvm.Cond.soleField "StreamQueries$Plan" "reading") ∈ lw_all := lw_g (lw_at lw_m1 218 rfl) rfl
theorem q380 : (Jvm.Cond.lays "StreamQueries$Plan" "StreamQueries$Plan" "mayAggregate" "Z") ∈ lw_all := lw_g (lw_at lw_m1 219 rfl) rfl
theorem q381 : (Jvm.Cond.soleField "StreamQueries$Plan" "mayAggregate") ∈ lw_all := lw_g (lw_at lw_m1 220 rfl) rfl
theorem q382 : (Jvm.Cond.laysFinal "StreamQueries$Plan" "StreamQueries$Plan" "pool" "LStreamQueries$Pool;") ∈ lw_all := lw_g (lw_at lw_m1 221 rfl) rfl
theorem q383 : (Jvm.Cond.soleField "StreamQueries$Plan" "pool") ∈ lw_all := lw_g (lw_at lw_m1 222 rfl) rfl
theorem q384 : (Jvm.Cond.lays "StreamQueries$Plan" "StreamQueries$Plan" "nodes" "[LStreamQueries$Node;") ∈ lw_all := lw_g (lw_at lw_m1 223 rfl) rfl
theorem q385 : (Jvm.Cond.soleField "StreamQueries$Plan" "nodes") ∈ lw_all := lw_g (lw_at lw_m1 224 rfl) rfl
theorem q386 : (Jvm.Cond.lays "StreamQueries$Plan" "StreamQueries$Plan" "nodeMany" "I") ∈ lw_all := lw_g (lw_at lw_m1 225 rfl) rfl
theorem q387 : (Jvm.Cond.soleField "StreamQueries$Plan" "nodeMany") ∈ lw_all := lw_g (lw_at lw_m1 226 rfl) rfl
theorem q388 : (Jvm.Cond.lays "StreamQueries$Plan" "StreamQueries$Plan" "queries" "[LStreamQueries$Query;") ∈ lw_all := lw_g (lw_at lw_m1 227 rfl) rfl
theorem q389 : (Jvm.Cond.soleField "StreamQueries$Plan" "queries") ∈ lw_all := lw_g (lw_at lw_m1 228 rfl) rfl
theorem q390 : (Jvm.Cond.lays "StreamQueries$Plan" "StreamQueries$Plan" "queryMany" "I") ∈ lw_all := lw_g (lw_at lw_m1 229 rfl) rfl
theorem q391 : (Jvm.Cond.soleField "StreamQueries$Plan" "queryMany") ∈ lw_all := lw_g (lw_at lw_m1 230 rfl) rfl
theorem q392 : (Jvm.Cond.lays "StreamQueries$Plan" "StreamQueries$Plan" "selects" "[LStreamQueries$Select;") ∈ lw_all := lw_g (lw_at lw_m1 231 rfl) rfl
theorem q393 : (Jvm.Cond.soleField "StreamQueries$Plan" "selects") ∈ lw_all := lw_g (lw_at lw_m1 232 rfl) rfl
theorem q394 : (Jvm.Cond.lays "StreamQueries$Plan" "StreamQueries$Plan" "selectMany" "I") ∈ lw_all := lw_g (lw_at lw_m1 233 rfl) rfl
theorem q395 : (Jvm.Cond.soleField "StreamQueries$Plan" "selectMany") ∈ lw_all := lw_g (lw_at lw_m1 234 rfl) rfl
theorem q396 : (Jvm.Cond.superclass "StreamQueries$Plan" "java/lang/Object") ∈ lw_all := lw_g (lw_at lw_m1 235 rfl) rfl
theorem q495 : (Jvm.Cond.instanceMethod ({ cls := "StreamQueries$Plan", name := "read", desc := "([BI[II)V" } : Jvm.MethodName)) ∈ lw_all := lw_g (lw_at lw_m2 94 rfl) rfl
theorem q496 : (Jvm.Cond.selects "StreamQueries$Plan" ({ cls := "StreamQueries$Plan", name := "read", desc := "([BI[II)V" } : Jvm.MethodName) ({ cls := "StreamQueries$Plan", name := "read", desc := "([BI[II)V" } : Jvm.MethodName)) ∈ lw_all := lw_g (lw_at lw_m2 95 rfl) rfl
theorem q497 : (Jvm.Cond.code ({ cls := "StreamQueries$Plan", name := "read", desc := "([BI[II)V" } : Jvm.MethodName) prog_5_method_20_code (5 : Nat) (Option.none : Option Jvm.ClassFile.FieldType)) ∈ lw_all := lw_g (lw_at lw_m2 96 rfl) rfl
theorem q498 : (Jvm.Cond.methodLink "StreamQueries$Plan" (169 : Nat) ({ cls := "StreamQueries$Plan", name := "drop", desc := "()V" } : Jvm.MethodName)) ∈ lw_all := lw_g (lw_at lw_m2 97 rfl) rfl
theorem q499 : (Jvm.Cond.instanceMethod ({ cls := "StreamQueries$Plan", name := "drop", desc := "()V" } : Jvm.MethodName)) ∈ lw_all := lw_g (lw_at lw_m2 98 rfl) rfl
theorem q500 : (Jvm.Cond.selects "StreamQueries$Plan" ({ cls := "StreamQueries$Plan", name := "drop", desc := "()V" } : Jvm.MethodName) ({ cls := "StreamQueries$Plan", name := "drop", desc := "()V" } : Jvm.MethodName)) ∈ lw_all := lw_g (lw_at lw_m2 99 rfl) rfl
theorem q501 : (Jvm.Cond.code ({ cls := "StreamQueries$Plan", name := "drop", desc := "()V" } : Jvm.MethodName) prog_5_method_19_code (2 : Nat) (Option.none : Option Jvm.ClassFile.FieldType)) ∈ lw_all := lw_g (lw_at lw_m2 100 rfl) rfl
theorem q502 : (Jvm.Cond.methodLink "StreamQueries$Plan" (166 : Nat) ({ cls := "StreamQueries$Node", name := "empty", desc := "()V" } : Jvm.MethodName)) ∈ lw_all := lw_g (lw_at lw_m2 101 rfl) rfl
theorem q507 : (Jvm.Cond.methodLink "StreamQueries$Plan" (172 : Nat) ({ cls := "StreamQueries$Tokens", name := "read", desc := "([BI)V" } : Jvm.MethodName)) ∈ lw_all := lw_g (lw_at lw_m2 106 rfl) rfl
theorem q641 : (Jvm.Cond.methodLink "StreamQueries$Plan" (176 : Nat) ({ cls := "StreamQueries$Expressions", name := "clear", desc := "()V" } : Jvm.MethodName)) ∈ lw_all := lw_g (lw_at lw_m3 0 rfl) rfl
theorem q645 : (Jvm.Cond.stringRef "StreamQueries$Plan" (190 : Nat) "unbounded") ∈ lw_tbl := lw_at lw_m3 4 rfl
theorem q646 : (Jvm.Cond.methodLink "StreamQueries$Plan" (103 : Nat) ({ cls := "StreamQueries$Plan", name := "eats", desc := "(Ljava/lang/String;)Z" } : Jvm.MethodName)) ∈ lw_all := lw_g (lw_at lw_m3 5 rfl) rfl
theorem q647 : (Jvm.Cond.privateMethod ({ cls := "StreamQueries$Plan", name := "eats", desc := "(Ljava/lang/String;)Z" } : Jvm.MethodName)) ∈ lw_tbl := lw_at lw_m3 6 rfl
theorem q648 : (Jvm.Cond.instanceMethod ({ cls := "StreamQueries$Plan", name := "eats", desc := "(Ljava/lang/String;)Z" } : Jvm.MethodName)) ∈ lw_all := lw_g (lw_at lw_m3 7 rfl) rfl
theorem q649 : (Jvm.Cond.code ({ cls := "StreamQueries$Plan", name := "eats", desc := "(Ljava/lang/String;)Z" } : Jvm.MethodName) prog_5_method_11_code (3 : Nat) (Option.some Jvm.ClassFile.FieldType.boolean)) ∈ lw_all := lw_g (lw_at lw_m3 8 rfl) rfl
theorem q650 : (Jvm.Cond.methodLink "StreamQueries$Plan" (100 : Nat) ({ cls := "StreamQueries$Plan", name := "is", desc := "(Ljava/lang/String;)Z" } : Jvm.MethodName)) ∈ lw_all := lw_g (lw_at lw_m3 9 rfl) rfl
theorem q651 : (Jvm.Cond.privateMethod ({ cls := "StreamQueries$Plan", name := "is", desc := "(Ljava/lang/String;)Z" } : Jvm.MethodName)) ∈ lw_tbl := lw_at lw_m3 10 rfl
theorem q652 : (Jvm.Cond.instanceMethod ({ cls := "StreamQueries$Plan", name := "is", desc := "(Ljava/lang/String;)Z" } : Jvm.MethodName)) ∈ lw_all := lw_g (lw_at lw_m3 11 rfl) rfl
theorem q653 : (Jvm.Cond.code ({ cls := "StreamQueries$Plan", name := "is", desc := "(Ljava/lang/String;)Z" } : Jvm.MethodName) prog_5_method_10_code (2 : Nat) (Option.some Jvm.ClassFile.FieldType.boolean)) ∈ lw_all := lw_g (lw_at lw_m3 12 rfl) rfl
theorem q654 : (Jvm.Cond.methodLink "StreamQueries$Plan" (92 : Nat) ({ cls := "StreamQueries$Plan", name := "good", desc := "()Z" } : Jvm.MethodName)) ∈ lw_all := lw_g (lw_at lw_m3 13 rfl) rfl
theorem q655 : (Jvm.Cond.privateMethod ({ cls := "StreamQueries$Plan", name := "good", desc := "()Z" } : Jvm.MethodName)) ∈ lw_tbl := lw_at lw_m3 14 rfl
theorem q656 : (Jvm.Cond.instanceMethod ({ cls := "StreamQueries$Plan", name := "good", desc := "()Z" } : Jvm.MethodName)) ∈ lw_all := lw_g (lw_at lw_m3 15 rfl) rfl
theorem q657 : (Jvm.Cond.code ({ cls := "StreamQueries$Plan", name := "good", desc := "()Z" } : Jvm.MethodName) prog_5_method_7_code (1 : Nat) (Option.some Jvm.ClassFile.FieldType.boolean)) ∈ lw_all := lw_g (lw_at lw_m3 16 rfl) rfl
theorem q658 : (Jvm.Cond.methodLink "StreamQueries$Plan" (96 : Nat) ({ cls := "StreamQueries$Tokens", name := "is", desc := "(ILjava/lang/String;)Z" } : Jvm.MethodName)) ∈ lw_all := lw_g (lw_at lw_m3 17 rfl) rfl
theorem q662 : (Jvm.Cond.methodLink "StreamQueries$Plan" (195 : Nat) ({ cls := "StreamQueries$Plan", name := "readQuery", desc := "()LStreamQueries$Query;" } : Jvm.MethodName)) ∈ lw_all := lw_g (lw_at lw_m3 21 rfl) rfl
theorem q663 : (Jvm.Cond.privateMethod ({ cls := "StreamQueries$Plan", name := "readQuery", desc := "()LStreamQueries$Query;" } : Jvm.MethodName)) ∈ lw_tbl := lw_at lw_m3 22 rfl
theorem q664 : (Jvm.Cond.instanceMethod ({ cls := "StreamQueries$Plan", name := "readQuery", desc := "()LStreamQueries$Query;" } : Jvm.MethodName)) ∈ lw_all := lw_g (lw_at lw_m3 23 rfl) rfl
theorem q665 : (Jvm.Cond.code ({ cls := "StreamQueries$Plan", name := "readQuery", desc := "()LStreamQueries$Query;" } : Jvm.MethodName) prog_5_method_21_code (4 : Nat) (Option.some (Jvm.ClassFile.FieldType.object "StreamQueries$Query"))) ∈ lw_all := lw_g (lw_at lw_m3 24 rfl) rfl
theorem q666 : (Jvm.Cond.methodLink "StreamQueries$Plan" (213 : Nat) ({ cls := "StreamQueries$Plan", name := "newQuery", desc := "()LStreamQueries$Query;" } : Jvm.MethodName)) ∈ lw_all := lw_g (lw_at lw_m3 25 rfl) rfl
theorem q667 : (Jvm.Cond.privateMethod ({ cls := "StreamQueries$Plan", name := "newQuery", desc := "()LStreamQueries$Query;" } : Jvm.MethodName)) ∈ lw_tbl := lw_at lw_m3 26 rfl
theorem q668 : (Jvm.Cond.instanceMethod ({ cls := "StreamQueries$Plan", name := "newQuery", desc := "()LStreamQueries$Query;" } : Jvm.MethodName)) ∈ lw_all := lw_g (lw_at lw_m3 27 rfl) rfl
theorem q669 : (Jvm.Cond.code ({ cls := "StreamQueries$Plan", name := "newQuery", desc := "()LStreamQueries$Query;" } : Jvm.MethodName) prog_5_method_3_code (2 : Nat) (Option.some (Jvm.ClassFile.FieldType.object "StreamQueries$Query"))) ∈ lw_all := lw_g (lw_at lw_m3 28 rfl) rfl
theorem q670 : (Jvm.Cond.methodLink "StreamQueries$Plan" (51 : Nat) ({ cls := "java/lang/System", name := "arraycopy", desc := "(Ljava/lang/Object;ILjava/lang/Object;II)V" } : Jvm.MethodName)) ∈ lw_all := lw_g (lw_at lw_m3 29 rfl) rfl
theorem q672 : (Jvm.Cond.methodLinkNest "StreamQueries$Plan" (67 : Nat) ({ cls := "StreamQueries$Query", name := "<init>", desc := "()V" } : Jvm.MethodName) "StreamQueries") ∈ lw_tbl := lw_at lw_m3 31 rfl
theorem q678 : (Jvm.Cond.fieldLinkNest "StreamQueries$Plan" (476 : Nat) "StreamQueries$Query" "selects" "[LStreamQueries$Select;" "StreamQueries") ∈ lw_tbl := lw_at lw_m3 37 rfl
theorem q680 : (Jvm.Cond.fieldLinkNest "StreamQueries$Plan" (487 : Nat) "StreamQueries$Query" "words" "[I" "StreamQueries") ∈ lw_tbl := lw_at lw_m3 39 rfl
theorem q682 : (Jvm.Cond.fieldLinkNest "StreamQueries$Plan" (494 : Nat) "StreamQueries$Query" "hows" "[I" "StreamQueries") ∈ lw_tbl := lw_at lw_m3 41 rfl
theorem q684 : (Jvm.Cond.fieldLinkNest "StreamQueries$Plan" (484 : Nat) "StreamQueries$Query" "size" "I" "StreamQueries") ∈ lw_tbl := lw_at lw_m3 43 rfl
theorem q686 : (Jvm.Cond.fieldLinkNest "StreamQueries$Plan" (233 : Nat) "StreamQueries$Query" "order" "I" "StreamQueries") ∈ lw_tbl := lw_at lw_m3 45 rfl
theorem q688 : (Jvm.Cond.fieldLinkNest "StreamQueries$Plan" (241 : Nat) "StreamQueries$Query" "orders" "I" "StreamQueries") ∈ lw_tbl := lw_at lw_m3 47 rfl
theorem q690 : (Jvm.Cond.fieldLinkNest "StreamQueries$Plan" (250 : Nat) "StreamQueries$Query" "orderBy" "[I" "StreamQueries") ∈ lw_tbl := lw_at lw_m3 49 rfl
theorem q692 : (Jvm.Cond.fieldLinkNest "StreamQueries$Plan" (253 : Nat) "StreamQueries$Query" "isDown" "[Z" "StreamQueries") ∈ lw_tbl := lw_at lw_m3 51 rfl
theorem q693 : (Jvm.Cond.fieldLinkNest "StreamQueries$Plan" (269 : Nat) "StreamQueries$Query" "limit" "I" "StreamQueries") ∈ lw_tbl := lw_at lw_m3 52 rfl
theorem q695 : (Jvm.Cond.fieldLinkNest "StreamQueries$Plan" (501 : Nat) "StreamQueries$Query" "columns" "I" "StreamQueries") ∈ lw_tbl := lw_at lw_m3 54 rfl
theorem q697 : (Jvm.Cond.fieldLinkNest "StreamQueries$Plan" (562 : Nat) "StreamQueries$Query" "names" "[I" "StreamQueries") ∈ lw_tbl := lw_at lw_m3 56 rfl
theorem q699 : (Jvm.Cond.fieldLinkNest "StreamQueries$Plan" (504 : Nat) "StreamQueries$Query" "types" "[I" "StreamQueries") ∈ lw_tbl := lw_at lw_m3 58 rfl
theorem q701 : (Jvm.Cond.fieldLinkNest "StreamQueries$Plan" (490 : Nat) "StreamQueries$Query" "isBounded" "Z" "StreamQueries") ∈ lw_tbl := lw_at lw_m3 60 rfl
theorem q729 : (Jvm.Cond.methodLink "StreamQueries$Plan" (68 : Nat) ({ cls := "StreamQueries$Query", name := "clear", desc := "()V" } : Jvm.MethodName)) ∈ lw_all := lw_g (lw_at lw_m3 88 rfl) rfl
theorem q733 : (Jvm.Cond.methodLink "StreamQueries$Plan" (216 : Nat) ({ cls := "StreamQueries$Plan", name := "readSelect", desc := "()LStreamQueries$Select;" } : Jvm.MethodName)) ∈ lw_all := lw_g (lw_at lw_m3 92 rfl) rfl
theorem q734 : (Jvm.Cond.privateMethod ({ cls := "StreamQueries$Plan", name := "readSelect", desc := "()LStreamQueries$Select;" } : Jvm.MethodName)) ∈ lw_tbl := lw_at lw_m3 93 rfl
theorem q735 : (Jvm.Cond.instanceMethod ({ cls := "StreamQueries$Plan", name := "readSelect", desc := "()LStreamQueries$Select;" } : Jvm.MethodName)) ∈ lw_all := lw_g (lw_at lw_m3 94 rfl) rfl
theorem q736 : (Jvm.Cond.code ({ cls := "StreamQueries$Plan", name := "readSelect", desc := "()LStreamQueries$Select;" } : Jvm.MethodName) prog_5_method_22_code (8 : Nat) (Option.some (Jvm.ClassFile.FieldType.object "StreamQueries$Select"))) ∈ lw_all := lw_g (lw_at lw_m3 95 rfl) rfl
theorem q737 : (Jvm.Cond.methodLink "StreamQueries$Plan" (271 : Nat) ({ cls := "StreamQueries$Plan", name := "newSelect", desc := "()LStreamQueries$Select;" } : Jvm.MethodName)) ∈ lw_all := lw_g (lw_at lw_m3 96 rfl) rfl
theorem q738 : (Jvm.Cond.privateMethod ({ cls := "StreamQueries$Plan", name := "newSelect", desc := "()LStreamQueries$Select;" } : Jvm.MethodName)) ∈ lw_tbl := lw_at lw_m3 97 rfl
theorem q739 : (Jvm.Cond.instanceMethod ({ cls := "StreamQueries$Plan", name := "newSelect", desc := "()LStreamQueries$Select;" } : Jvm.MethodName)) ∈ lw_all := lw_g (lw_at lw_m3 98 rfl) rfl
theorem q740 : (Jvm.Cond.code ({ cls := "StreamQueries$Plan", name := "newSelect", desc := "()LStreamQueries$Select;" } : Jvm.MethodName) prog_5_method_4_code (2 : Nat) (Option.some (Jvm.ClassFile.FieldType.object "StreamQueries$Select"))) ∈ lw_all := lw_g (lw_at lw_m3 99 rfl) rfl
theorem q742 : (Jvm.Cond.methodLinkNest "StreamQueries$Plan" (74 : Nat) ({ cls := "StreamQueries$Select", name := "<init>", desc := "()V" } : Jvm.MethodName) "StreamQueries") ∈ lw_tbl := lw_at lw_m3 101 rfl
theorem q748 : (Jvm.Cond.fieldLinkNest "StreamQueries$Plan" (278 : Nat) "StreamQueries$Select" "distinct" "I" "StreamQueries") ∈ lw_tbl := lw_at lw_m3 107 rfl
theorem q751 : (Jvm.Cond.fieldLinkNest "StreamQueries$Plan" (280 : Nat) "StreamQueries$Select" "items" "I" "StreamQueries") ∈ lw_tbl := lw_at lw_m3 110 rfl
theorem q753 : (Jvm.Cond.fieldLinkNest "StreamQueries$Plan" (283 : Nat) "StreamQueries$Select" "item" "[I" "StreamQueries") ∈ lw_tbl := lw_at lw_m3 112 rfl
theorem q756 : (Jvm.Cond.fieldLinkNest "StreamQueries$Plan" (286 : Nat) "StreamQueries$Select" "itemName" "[I" "StreamQueries") ∈ lw_tbl := lw_at lw_m3 115 rfl
theorem q759 : (Jvm.Cond.fieldLinkNest "StreamQueries$Plan" (507 : Nat) "StreamQueries$Select" "itemType" "[I" "StreamQueries") ∈ lw_tbl := lw_at lw_m3 118 rfl
theorem q761 : (Jvm.Cond.fieldLinkNest "StreamQueries$Plan" (317 : Nat) "StreamQueries$Select" "sources" "I" "StreamQueries") ∈ lw_tbl := lw_at lw_m3 120 rfl
theorem q763 : (Jvm.Cond.fieldLinkNest "StreamQueries$Plan" (353 : Nat) "StreamQueries$Select" "inner" "[LStreamQueries$Query;" "StreamQueries") ∈ lw_tbl := lw_at lw_m3 122 rfl
theorem q765 : (Jvm.Cond.fieldLinkNest "StreamQueries$Plan" (356 : Nat) "StreamQueries$Select" "closing" "[I" "StreamQueries") ∈ lw_tbl := lw_at lw_m3 124 rfl
theorem q767 : (Jvm.Cond.fieldLinkNest "StreamQueries$Plan" (369 : Nat) "StreamQueries$Select" "stream" "[I" "StreamQueries") ∈ lw_tbl := lw_at lw_m3 126 rfl
theorem q769 : (Jvm.Cond.fieldLinkNest "StreamQueries$Plan" (372 : Nat) "StreamQueries$Select" "keep" "[J" "StreamQueries") ∈ lw_tbl := lw_at lw_m3 128 rfl
theorem q771 : (Jvm.Cond.fieldLinkNest "StreamQueries$Plan" (359 : Nat) "StreamQueries$Select" "sourceName" "[I" "StreamQueries") ∈ lw_tbl := lw_at lw_m3 130 rfl
theorem q773 : (Jvm.Cond.fieldLinkNest "StreamQueries$Plan" (379 : Nat) "StreamQueries$Select" "join" "[I" "StreamQueries") ∈ lw_tbl := lw_at lw_m3 132 rfl
theorem q775 : (Jvm.Cond.fieldLinkNest "StreamQueries$Plan" (381 : Nat) "StreamQueries$Select" "isLeft" "[Z" "StreamQueries") ∈ lw_tbl := lw_at lw_m3 134 rfl
theorem q777 : (Jvm.Cond.fieldLinkNest "StreamQueries$Plan" (315 : Nat) "StreamQueries$Select" "on" "[I" "StreamQueries") ∈ lw_tbl := lw_at lw_m3 136 rfl
theorem q779 : (Jvm.Cond.fieldLinkNest "StreamQueries$Plan" (555 : Nat) "StreamQueries$Select" "firstOf" "[I" "StreamQueries") ∈ lw_tbl := lw_at lw_m3 138 rfl
theorem q781 : (Jvm.Cond.fieldLinkNest "StreamQueries$Plan" (537 : Nat) "StreamQueries$Select" "wideOf" "[I" "StreamQueries") ∈ lw_tbl := lw_at lw_m3 140 rfl
theorem q782 : (Jvm.Cond.fieldLinkNest "StreamQueries$Plan" (526 : Nat) "StreamQueries$Select" "wide" "I" "StreamQueries") ∈ lw_tbl := lw_at lw_m3 141 rfl
theorem q784 : (Jvm.Cond.fieldLinkNest "StreamQueries$Plan" (320 : Nat) "StreamQueries$Select" "where" "I" "StreamQueries") ∈ lw_tbl := lw_at lw_m3 143 rfl
theorem q786 : (Jvm.Cond.fieldLinkNest "StreamQueries$Plan" (324 : Nat) "StreamQueries$Select" "group" "I" "StreamQueries") ∈ lw_tbl := lw_at lw_m3 145 rfl
theorem q788 : (Jvm.Cond.fieldLinkNest "StreamQueries$Plan" (326 : Nat) "StreamQueries$Select" "groups" "I" "StreamQueries") ∈ lw_tbl := lw_at lw_m3 147 rfl
theorem q790 : (Jvm.Cond.fieldLinkNest "StreamQueries$Plan" (329 : Nat) "StreamQueries$Select" "groupBy" "[I" "StreamQueries") ∈ lw_tbl := lw_at lw_m3 149 rfl
theorem q792 : (Jvm.Cond.fieldLinkNest "StreamQueries$Plan" (332 : Nat) "StreamQueries$Select" "groupName" "[I" "StreamQueries") ∈ lw_tbl := lw_at lw_m3 151 rfl
theorem q794 : (Jvm.Cond.fieldLinkNest "StreamQueries$Plan" (337 : Nat) "StreamQueries$Select" "having" "I" "StreamQueries") ∈ lw_tbl := lw_at lw_m3 153 rfl
theorem q796 : (Jvm.Cond.fieldLinkNest "StreamQueries$Plan" (466 : Nat) "StreamQueries$Select" "aggregates" "I" "StreamQueries") ∈ lw_tbl := lw_at lw_m3 155 rfl
theorem q798 : (Jvm.Cond.fieldLinkNest "StreamQueries$Plan" (469 : Nat) "StreamQueries$Select" "aggregate" "[I" "StreamQueries") ∈ lw_tbl := lw_at lw_m3 157 rfl
theorem q800 : (Jvm.Cond.fieldLinkNest "StreamQueries$Plan" (493 : Nat) "StreamQueries$Select" "isBounded" "Z" "StreamQueries") ∈ lw_tbl := lw_at lw_m3 159 rfl
theorem q854 : (Jvm.Cond.methodLink "StreamQueries$Plan" (75 : Nat) ({ cls := "StreamQueries$Select", name := "clear", desc := "()V" } : Jvm.MethodName)) ∈ lw_all := lw_g (lw_at lw_m3 213 rfl) rfl
theorem q858 : (Jvm.Cond.stringRef "StreamQueries$Plan" (274 : Nat) "select") ∈ lw_tbl := lw_at lw_m3 217 rfl
theorem q859 : (Jvm.Cond.methodLink "StreamQueries$Plan" (237 : Nat) ({ cls := "StreamQueries$Plan", name := "want", desc := "(Ljava/lang/String;)V" } : Jvm.MethodName)) ∈ lw_all := lw_g (lw_at lw_m3 218 rfl) rfl
theorem q860 : (Jvm.Cond.privateMethod ({ cls := "StreamQueries$Plan", name := "want", desc := "(Ljava/lang/String;)V" } : Jvm.MethodName)) ∈ lw_tbl := lw_at lw_m3 219 rfl
theorem q861 : (Jvm.Cond.instanceMethod ({ cls := "StreamQueries$Plan", name := "want", desc := "(Ljava/lang/String;)V" } : Jvm.MethodName)) ∈ lw_all := lw_g (lw_at lw_m3 220 rfl) rfl
theorem q862 : (Jvm.Cond.code ({ cls := "StreamQueries$Plan", name := "want", desc := "(Ljava/lang/String;)V" } : Jvm.MethodName) prog_5_method_12_code (2 : Nat) (Option.none : Option Jvm.ClassFile.FieldType)) ∈ lw_all := lw_g (lw_at lw_m3 221 rfl) rfl
theorem q863 : (Jvm.Cond.methodLink "StreamQueries$Plan" (106 : Nat) ({ cls := "StreamQueries$Plan", name := "failToken", desc := "()V" } : Jvm.MethodName)) ∈ lw_all := lw_g (lw_at lw_m3 222 rfl) rfl
theorem q864 : (Jvm.Cond.privateMethod ({ cls := "StreamQueries$Plan", name := "failToken", desc := "()V" } : Jvm.MethodName)) ∈ lw_tbl := lw_at lw_m3 223 rfl
theorem q865 : (Jvm.Cond.instanceMethod ({ cls := "StreamQueries$Plan", name := "failToken", desc := "()V" } : Jvm.MethodName)) ∈ lw_all := lw_g (lw_at lw_m3 224 rfl) rfl
theorem q866 : (Jvm.Cond.code ({ cls := "StreamQueries$Plan", name := "failToken", desc := "()V" } : Jvm.MethodName) prog_5_method_9_code (1 : Nat) (Option.none : Option Jvm.ClassFile.FieldType)) ∈ lw_all := lw_g (lw_at lw_m3 225 rfl) rfl
theorem q867 : (Jvm.Cond.methodLink "StreamQueries$Plan" (85 : Nat) ({ cls := "StreamQueries$Tokens", name := "place", desc := "(I)I" } : Jvm.MethodName)) ∈ lw_all := lw_g (lw_at lw_m3 226 rfl) rfl
theorem q871 : (Jvm.Cond.methodLink "StreamQueries$Plan" (88 : Nat) ({ cls := "StreamQueries$Plan", name := "fail", desc := "(II)V" } : Jvm.MethodName)) ∈ lw_all := lw_g (lw_at lw_m3 230 rfl) rfl
theorem q872 : (Jvm.Cond.privateMethod ({ cls := "StreamQueries$Plan", name := "fail", desc := "(II)V" } : Jvm.MethodName)) ∈ lw_tbl := lw_at lw_m3 231 rfl
theorem q873 : (Jvm.Cond.instanceMethod ({ cls := "StreamQueries$Plan", name := "fail", desc := "(II)V" } : Jvm.MethodName)) ∈ lw_all := lw_g (lw_at lw_m3 232 rfl) rfl
theorem q874 : (Jvm.Cond.code ({ cls := "StreamQueries$Plan", name := "fail", desc := "(II)V" } : Jvm.MethodName) prog_5_method_8_code (3 : Nat) (Option.none : Option Jvm.ClassFile.FieldType)) ∈ lw_all := lw_g (lw_at lw_m3 233 rfl) rfl
theorem q875 : (Jvm.Cond.stringRef "StreamQueries$Plan" (276 : Nat) "distinct") ∈ lw_tbl := lw_at lw_m3 234 rfl
theorem q876 : (Jvm.Cond.methodLink "StreamQueries$Plan" (244 : Nat) ({ cls := "StreamQueries$Plan", name := "begins", desc := "()Z" } : Jvm.MethodName)) ∈ lw_all := lw_g (lw_at lw_m3 235 rfl) rfl
theorem q877 : (Jvm.Cond.privateMethod ({ cls := "StreamQueries$Plan", name := "begins", desc := "()Z" } : Jvm.MethodName)) ∈ lw_tbl := lw_at lw_m3 236 rfl
theorem q878 : (Jvm.Cond.instanceMethod ({ cls := "StreamQueries$Plan", name := "begins", desc := "()Z" } : Jvm.MethodName)) ∈ lw_all := lw_g (lw_at lw_m3 237 rfl) rfl
theorem q879 : (Jvm.Cond.code ({ cls := "StreamQueries$Plan", name := "begins", desc := "()Z" } : Jvm.MethodName) prog_5_method_15_code (1 : Nat) (Option.some Jvm.ClassFile.FieldType.boolean)) ∈ lw_all := lw_g (lw_at lw_m3 238 rfl) rfl
theorem q880 : (Jvm.Cond.methodLink "StreamQueries$Plan" (116 : Nat) ({ cls := "StreamQueries$Plan", name := "beginsSum", desc := "()Z" } : Jvm.MethodName)) ∈ lw_all := lw_g (lw_at lw_m3 239 rfl) rfl
theorem q881 : (Jvm.Cond.privateMethod ({ cls := "StreamQueries$Plan", name := "beginsSum", desc := "()Z" } : Jvm.MethodName)) ∈ lw_tbl := lw_at lw_m4 0 rfl
theorem q882 : (Jvm.Cond.instanceMethod ({ cls := "StreamQueries$Plan", name := "beginsSum", desc := "()Z" } : Jvm.MethodName)) ∈ lw_all := lw_g (lw_at lw_m4 1 rfl) rfl
theorem q883 : (Jvm.Cond.code ({ cls := "StreamQueries$Plan", name := "beginsSum", desc := "()Z" } : Jvm.MethodName) prog_5_method_16_code (2 : Nat) (Option.some Jvm.ClassFile.FieldType.boolean)) ∈ lw_all := lw_g (lw_at lw_m4 2 rfl) rfl
theorem q884 : (Jvm.Cond.stringRef "StreamQueries$Plan" (121 : Nat) "count") ∈ lw_tbl := lw_at lw_m4 3 rfl
theorem q885 : (Jvm.Cond.stringRef "StreamQueries$Plan" (123 : Nat) "sum") ∈ lw_tbl := lw_at lw_m4 4 rfl
theorem q886 : (Jvm.Cond.stringRef "StreamQueries$Plan" (125 : Nat) "min") ∈ lw_tbl := lw_at lw_m4 5 rfl
theorem q887 : (Jvm.Cond.stringRef "StreamQueries$Plan" (127 : Nat) "max") ∈ lw_tbl := lw_at lw_m4 6 rfl
theorem q888 : (Jvm.Cond.methodLink "StreamQueries$Plan" (129 : Nat) ({ cls := "StreamQueries$Tokens", name := "isNumber", desc := "(I)Z" } : Jvm.MethodName)) ∈ lw_all := lw_g (lw_at lw_m4 7 rfl) rfl
theorem q892 : (Jvm.Cond.methodLink "StreamQueries$Plan" (109 : Nat) ({ cls := "StreamQueries$Tokens", name := "isName", desc := "(I)Z" } : Jvm.MethodName)) ∈ lw_all := lw_g (lw_at lw_m4 11 rfl) rfl
theorem q896 : (Jvm.Cond.stringRef "StreamQueries$Plan" (132 : Nat) "time") ∈ lw_tbl := lw_at lw_m4 15 rfl
theorem q897 : (Jvm.Cond.stringRef "StreamQueries$Plan" (134 : Nat) "null") ∈ lw_tbl := lw_at lw_m4 16 rfl
theorem q898 : (Jvm.Cond.stringRef "StreamQueries$Plan" (136 : Nat) "true") ∈ lw_tbl := lw_at lw_m4 17 rfl
theorem q899 : (Jvm.Cond.stringRef "StreamQueries$Plan" (138 : Nat) "false") ∈ lw_tbl := lw_at lw_m4 18 rfl
theorem q900 : (Jvm.Cond.stringRef "StreamQueries$Plan" (140 : Nat) "(") ∈ lw_tbl := lw_at lw_m4 19 rfl
theorem q901 : (Jvm.Cond.stringRef "StreamQueries$Plan" (142 : Nat) "case") ∈ lw_tbl := lw_at lw_m4 20 rfl
theorem q902 : (Jvm.Cond.stringRef "StreamQueries$Plan" (144 : Nat) "span") ∈ lw_tbl := lw_at lw_m4 21 rfl
theorem q903 : (Jvm.Cond.stringRef "StreamQueries$Plan" (146 : Nat) "-") ∈ lw_tbl := lw_at lw_m4 22 rfl
theorem q904 : (Jvm.Cond.stringRef "StreamQueries$Plan" (119 : Nat) "not") ∈ lw_tbl := lw_at lw_m4 23 rfl
theorem q905 : (Jvm.Cond.methodLink "StreamQueries$Plan" (246 : Nat) ({ cls := "StreamQueries$Plan", name := "readExpression", desc := "()I" } : Jvm.MethodName)) ∈ lw_all := lw_g (lw_at lw_m4 24 rfl) rfl
theorem q906 : (Jvm.Cond.privateMethod ({ cls := "StreamQueries$Plan", name := "readExpression", desc := "()I" } : Jvm.MethodName)) ∈ lw_tbl := lw_at lw_m4 25 rfl
theorem q907 : (Jvm.Cond.instanceMethod ({ cls := "StreamQueries$Plan", name := "readExpression", desc := "()I" } : Jvm.MethodName)) ∈ lw_all := lw_g (lw_at lw_m4 26 rfl) rfl
theorem q908 : (Jvm.Cond.code ({ cls := "StreamQueries$Plan", name := "readExpression", desc := "()I" } : Jvm.MethodName) prog_5_method_26_code (4 : Nat) (Option.some Jvm.ClassFile.FieldType.int)) ∈ lw_all := lw_g (lw_at lw_m4 27 rfl) rfl
theorem q909 : (Jvm.Cond.methodLink "StreamQueries$Plan" (384 : Nat) ({ cls := "StreamQueries$Plan", name := "readAnd", desc := "()I" } : Jvm.MethodName)) ∈ lw_all := lw_g (lw_at lw_m4 28 rfl) rfl
theorem q910 : (Jvm.Cond.privateMethod ({ cls := "StreamQueries$Plan", name := "readAnd", desc := "()I" } : Jvm.MethodName)) ∈ lw_tbl := lw_at lw_m4 29 rfl
theorem q911 : (Jvm.Cond.instanceMethod ({ cls := "StreamQueries$Plan", name := "readAnd", desc := "()I" } : Jvm.MethodName)) ∈ lw_all := lw_g (lw_at lw_m4 30 rfl) rfl
theorem q912 : (Jvm.Cond.code ({ cls := "StreamQueries$Plan", name := "readAnd", desc := "()I" } : Jvm.MethodName) prog_5_method_27_code (4 : Nat) (Option.some Jvm.ClassFile.FieldType.int)) ∈ lw_all := lw_g (lw_at lw_m4 31 rfl) rfl
theorem q913 : (Jvm.Cond.methodLink "StreamQueries$Plan" (392 : Nat) ({ cls := "StreamQueries$Plan", name := "readNot", desc := "()I" } : Jvm.MethodName)) ∈ lw_all := lw_g (lw_at lw_m4 32 rfl) rfl
theorem q914 : (Jvm.Cond.privateMethod ({ cls := "StreamQueries$Plan", name := "readNot", desc := "()I" } : Jvm.MethodName)) ∈ lw_tbl := lw_at lw_m4 33 rfl
theorem q915 : (Jvm.Cond.instanceMethod ({ cls := "StreamQueries$Plan", name := "readNot", desc := "()I" } : Jvm.MethodName)) ∈ lw_all := lw_g (lw_at lw_m4 34 rfl) rfl
theorem q916 : (Jvm.Cond.code ({ cls := "StreamQueries$Plan", name := "readNot", desc := "()I" } : Jvm.MethodName) prog_5_method_28_code (3 : Nat) (Option.some Jvm.ClassFile.FieldType.int)) ∈ lw_all := lw_g (lw_at lw_m4 35 rfl) rfl
theorem q917 : (Jvm.Cond.methodLink "StreamQueries$Plan" (397 : Nat) ({ cls := "StreamQueries$Plan", name := "readTest", desc := "()I" } : Jvm.MethodName)) ∈ lw_all := lw_g (lw_at lw_m4 36 rfl) rfl
theorem q918 : (Jvm.Cond.privateMethod ({ cls := "StreamQueries$Plan", name := "readTest", desc := "()I" } : Jvm.MethodName)) ∈ lw_tbl := lw_at lw_m4 37 rfl
theorem q919 : (Jvm.Cond.instanceMethod ({ cls := "StreamQueries$Plan", name := "readTest", desc := "()I" } : Jvm.MethodName)) ∈ lw_all := lw_g (lw_at lw_m4 38 rfl) rfl
theorem q920 : (Jvm.Cond.code ({ cls := "StreamQueries$Plan", name := "readTest", desc := "()I" } : Jvm.MethodName) prog_5_method_30_code (11 : Nat) (Option.some Jvm.ClassFile.FieldType.int)) ∈ lw_all := lw_g (lw_at lw_m4 39 rfl) rfl
theorem q921 : (Jvm.Cond.methodLink "StreamQueries$Plan" (412 : Nat) ({ cls := "StreamQueries$Plan", name := "readSum", desc := "()I" } : Jvm.MethodName)) ∈ lw_all := lw_g (lw_at lw_m4 40 rfl) rfl
theorem q922 : (Jvm.Cond.privateMethod ({ cls := "StreamQueries$Plan", name := "readSum", desc := "()I" } : Jvm.MethodName)) ∈ lw_tbl := lw_at lw_m4 41 rfl
theorem q923 : (Jvm.Cond.instanceMethod ({ cls := "StreamQueries$Plan", name := "readSum", desc := "()I" } : Jvm.MethodName)) ∈ lw_all := lw_g (lw_at lw_m4 42 rfl) rfl
theorem q924 : (Jvm.Cond.code ({ cls := "StreamQueries$Plan", name := "readSum", desc := "()I" } : Jvm.MethodName) prog_5_method_31_code (5 : Nat) (Option.some Jvm.ClassFile.FieldType.int)) ∈ lw_all := lw_g (lw_at lw_m4 43 rfl) rfl
theorem q925 : (Jvm.Cond.methodLink "StreamQueries$Plan" (424 : Nat) ({ cls := "StreamQueries$Plan", name := "readPart", desc := "()I" } : Jvm.MethodName)) ∈ lw_all := lw_g (lw_at lw_m4 44 rfl) rfl
theorem q926 : (Jvm.Cond.privateMethod ({ cls := "StreamQueries$Plan", name := "readPart", desc := "()I" } : Jvm.MethodName)) ∈ lw_tbl := lw_at lw_m4 45 rfl
theorem q927 : (Jvm.Cond.instanceMethod ({ cls := "StreamQueries$Plan", name := "readPart", desc := "()I" } : Jvm.MethodName)) ∈ lw_all := lw_g (lw_at lw_m4 46 rfl) rfl
theorem q928 : (Jvm.Cond.code ({ cls := "StreamQueries$Plan", name := "readPart", desc := "()I" } : Jvm.MethodName) prog_5_method_32_code (5 : Nat) (Option.some Jvm.ClassFile.FieldType.int)) ∈ lw_all := lw_g (lw_at lw_m4 47 rfl) rfl
theorem q929 : (Jvm.Cond.methodLink "StreamQueries$Plan" (429 : Nat) ({ cls := "StreamQueries$Plan", name := "readSign", desc := "()I" } : Jvm.MethodName)) ∈ lw_all := lw_g (lw_at lw_m4 48 rfl) rfl
theorem q930 : (Jvm.Cond.privateMethod ({ cls := "StreamQueries$Plan", name := "readSign", desc := "()I" } : Jvm.MethodName)) ∈ lw_tbl := lw_at lw_m4 49 rfl
theorem q931 : (Jvm.Cond.instanceMethod ({ cls := "StreamQueries$Plan", name := "readSign", desc := "()I" } : Jvm.MethodName)) ∈ lw_all := lw_g (lw_at lw_m4 50 rfl) rfl
theorem q932 : (Jvm.Cond.code ({ cls := "StreamQueries$Plan", name := "readSign", desc := "()I" } : Jvm.MethodName) prog_5_method_33_code (3 : Nat) (Option.some Jvm.ClassFile.FieldType.int)) ∈ lw_all := lw_g (lw_at lw_m4 51 rfl) rfl
theorem q933 : (Jvm.Cond.methodLink "StreamQueries$Plan" (438 : Nat) ({ cls := "StreamQueries$Plan", name := "readOne", desc := "()I" } : Jvm.MethodName)) ∈ lw_all := lw_g (lw_at lw_m4 52 rfl) rfl
theorem q934 : (Jvm.Cond.privateMethod ({ cls := "StreamQueries$Plan", name := "readOne", desc := "()I" } : Jvm.MethodName)) ∈ lw_tbl := lw_at lw_m4 53 rfl
theorem q935 : (Jvm.Cond.instanceMethod ({ cls := "StreamQueries$Plan", name := "readOne", desc := "()I" } : Jvm.MethodName)) ∈ lw_all := lw_g (lw_at lw_m4 54 rfl) rfl
theorem q936 : (Jvm.Cond.code ({ cls := "StreamQueries$Plan", name := "readOne", desc := "()I" } : Jvm.MethodName) prog_5_method_34_code (4 : Nat) (Option.some Jvm.ClassFile.FieldType.int)) ∈ lw_all := lw_g (lw_at lw_m4 55 rfl) rfl
theorem q937 : (Jvm.Cond.methodLink "StreamQueries$Plan" (152 : Nat) ({ cls := "StreamQueries$Plan", name := "node", desc := "(IIIII)I" } : Jvm.MethodName)) ∈ lw_all := lw_g (lw_at lw_m4 56 rfl) rfl
theorem q938 : (Jvm.Cond.privateMethod ({ cls := "StreamQueries$Plan", name := "node", desc := "(IIIII)I" } : Jvm.MethodName)) ∈ lw_tbl := lw_at lw_m4 57 rfl
theorem q939 : (Jvm.Cond.instanceMethod ({ cls := "StreamQueries$Plan", name := "node", desc := "(IIIII)I" } : Jvm.MethodName)) ∈ lw_all := lw_g (lw_at lw_m4 58 rfl) rfl
theorem q940 : (Jvm.Cond.code ({ cls := "StreamQueries$Plan", name := "node", desc := "(IIIII)I" } : Jvm.MethodName) prog_5_method_18_code (6 : Nat) (Option.some Jvm.ClassFile.FieldType.int)) ∈ lw_all := lw_g (lw_at lw_m4 59 rfl) rfl
theorem q941 : (Jvm.Cond.methodLink "StreamQueries$Plan" (160 : Nat) ({ cls := "StreamQueries$Expressions", name := "isFull", desc := "()Z" } : Jvm.MethodName)) ∈ lw_all := lw_g (lw_at lw_m4 60 rfl) rfl
theorem q945 : (Jvm.Cond.methodLink "StreamQueries$Plan" (163 : Nat) ({ cls := "StreamQueries$Expressions", name := "add", desc := "(IIIII)I" } : Jvm.MethodName)) ∈ lw_all := lw_g (lw_at lw_m4 64 rfl) rfl
theorem q949 : (Jvm.Cond.methodLink "StreamQueries$Plan" (263 : Nat) ({ cls := "StreamQueries$Tokens", name := "number", desc := "(I)J" } : Jvm.MethodName)) ∈ lw_all := lw_g (lw_at lw_m4 68 rfl) rfl
theorem q953 : (Jvm.Cond.methodLink "StreamQueries$Plan" (444 : Nat) ({ cls := "StreamQueries$Plan", name := "readColumn", desc := "()I" } : Jvm.MethodName)) ∈ lw_all := lw_g (lw_at lw_m4 72 rfl) rfl
theorem q954 : (Jvm.Cond.privateMethod ({ cls := "StreamQueries$Plan", name := "readColumn", desc := "()I" } : Jvm.MethodName)) ∈ lw_tbl := lw_at lw_m4 73 rfl
theorem q955 : (Jvm.Cond.instanceMethod ({ cls := "StreamQueries$Plan", name := "readColumn", desc := "()I" } : Jvm.MethodName)) ∈ lw_all := lw_g (lw_at lw_m4 74 rfl) rfl
theorem q956 : (Jvm.Cond.code ({ cls := "StreamQueries$Plan", name := "readColumn", desc := "()I" } : Jvm.MethodName) prog_5_method_35_code (4 : Nat) (Option.some Jvm.ClassFile.FieldType.int)) ∈ lw_all := lw_g (lw_at lw_m4 75 rfl) rfl
theorem q957 : (Jvm.Cond.stringRef "StreamQueries$Plan" (456 : Nat) ".") ∈ lw_tbl := lw_at lw_m4 76 rfl
theorem q958 : (Jvm.Cond.methodLink "StreamQueries$Plan" (348 : Nat) ({ cls := "StreamQueries$Plan", name := "opens", desc := "()Z" } : Jvm.MethodName)) ∈ lw_all := lw_g (lw_at lw_m4 77 rfl) rfl
theorem q959 : (Jvm.Cond.privateMethod ({ cls := "StreamQueries$Plan", name := "opens", desc := "()Z" } : Jvm.MethodName)) ∈ lw_tbl := lw_at lw_m4 78 rfl
theorem q960 : (Jvm.Cond.instanceMethod ({ cls := "StreamQueries$Plan", name := "opens", desc := "()Z" } : Jvm.MethodName)) ∈ lw_all := lw_g (lw_at lw_m4 79 rfl) rfl
theorem q961 : (Jvm.Cond.code ({ cls := "StreamQueries$Plan", name := "opens", desc := "()Z" } : Jvm.MethodName) prog_5_method_14_code (1 : Nat) (Option.some Jvm.ClassFile.FieldType.boolean)) ∈ lw_all := lw_g (lw_at lw_m4 80 rfl) rfl
theorem q962 : (Jvm.Cond.stringRef "StreamQueries$Plan" (351 : Nat) ")") ∈ lw_tbl := lw_at lw_m4 81 rfl
theorem q963 : (Jvm.Cond.methodLink "StreamQueries$Plan" (447 : Nat) ({ cls := "StreamQueries$Plan", name := "readCase", desc := "()I" } : Jvm.MethodName)) ∈ lw_all := lw_g (lw_at lw_m4 82 rfl) rfl
theorem q964 : (Jvm.Cond.privateMethod ({ cls := "StreamQueries$Plan", name := "readCase", desc := "()I" } : Jvm.MethodName)) ∈ lw_tbl := lw_at lw_m4 83 rfl
theorem q965 : (Jvm.Cond.instanceMethod ({ cls := "StreamQueries$Plan", name := "readCase", desc := "()I" } : Jvm.MethodName)) ∈ lw_all := lw_g (lw_at lw_m4 84 rfl) rfl
theorem q966 : (Jvm.Cond.code ({ cls := "StreamQueries$Plan", name := "readCase", desc := "()I" } : Jvm.MethodName) prog_5_method_36_code (5 : Nat) (Option.some Jvm.ClassFile.FieldType.int)) ∈ lw_all := lw_g (lw_at lw_m4 85 rfl) rfl
theorem q967 : (Jvm.Cond.stringRef "StreamQueries$Plan" (458 : Nat) "when") ∈ lw_tbl := lw_at lw_m4 86 rfl
theorem q968 : (Jvm.Cond.stringRef "StreamQueries$Plan" (460 : Nat) "then") ∈ lw_tbl := lw_at lw_m4 87 rfl
theorem q969 : (Jvm.Cond.stringRef "StreamQueries$Plan" (462 : Nat) "else") ∈ lw_tbl := lw_at lw_m4 88 rfl
theorem q970 : (Jvm.Cond.stringRef "StreamQueries$Plan" (464 : Nat) "end") ∈ lw_tbl := lw_at lw_m4 89 rfl
theorem q971 : (Jvm.Cond.methodLink "StreamQueries$Plan" (450 : Nat) ({ cls := "StreamQueries$Plan", name := "readSpan", desc := "()I" } : Jvm.MethodName)) ∈ lw_all := lw_g (lw_at lw_m4 90 rfl) rfl
theorem q972 : (Jvm.Cond.privateMethod ({ cls := "StreamQueries$Plan", name := "readSpan", desc := "()I" } : Jvm.MethodName)) ∈ lw_tbl := lw_at lw_m4 91 rfl
theorem q973 : (Jvm.Cond.instanceMethod ({ cls := "StreamQueries$Plan", name := "readSpan", desc := "()I" } : Jvm.MethodName)) ∈ lw_all := lw_g (lw_at lw_m4 92 rfl) rfl
theorem q974 : (Jvm.Cond.code ({ cls := "StreamQueries$Plan", name := "readSpan", desc := "()I" } : Jvm.MethodName) prog_5_method_37_code (4 : Nat) (Option.some Jvm.ClassFile.FieldType.int)) ∈ lw_all := lw_g (lw_at lw_m4 93 rfl) rfl
theorem q975 : (Jvm.Cond.stringRef "StreamQueries$Plan" (259 : Nat) ",") ∈ lw_tbl := lw_at lw_m4 94 rfl
theorem q976 : (Jvm.Cond.methodLink "StreamQueries$Plan" (453 : Nat) ({ cls := "StreamQueries$Plan", name := "readAggregate", desc := "()I" } : Jvm.MethodName)) ∈ lw_all := lw_g (lw_at lw_m4 95 rfl) rfl
theorem q977 : (Jvm.Cond.privateMethod ({ cls := "StreamQueries$Plan", name := "readAggregate", desc := "()I" } : Jvm.MethodName)) ∈ lw_tbl := lw_at lw_m4 96 rfl
theorem q978 : (Jvm.Cond.instanceMethod ({ cls := "StreamQueries$Plan", name := "readAggregate", desc := "()I" } : Jvm.MethodName)) ∈ lw_all := lw_g (lw_at lw_m4 97 rfl) rfl
theorem q979 : (Jvm.Cond.code ({ cls := "StreamQueries$Plan", name := "readAggregate", desc := "()I" } : Jvm.MethodName) prog_5_method_38_code (6 : Nat) (Option.some Jvm.ClassFile.FieldType.int)) ∈ lw_all := lw_g (lw_at lw_m4 98 rfl) rfl
theorem q980 : (Jvm.Cond.stringRef "StreamQueries$Plan" (432 : Nat) "*") ∈ lw_tbl := lw_at lw_m4 99 rfl
theorem q981 : (Jvm.Cond.stringRef "StreamQueries$Plan" (434 : Nat) "/") ∈ lw_tbl := lw_at lw_m4 100 rfl
theorem q982 : (Jvm.Cond.stringRef "StreamQueries$Plan" (436 : Nat) "%") ∈ lw_tbl := lw_at lw_m4 101 rfl
theorem q983 : (Jvm.Cond.methodLink "StreamQueries$Plan" (389 : Nat) ({ cls := "StreamQueries$Plan", name := "between", desc := "(IIIII)I" } : Jvm.MethodName)) ∈ lw_all := lw_g (lw_at lw_m4 102 rfl) rfl
theorem q984 : (Jvm.Cond.privateMethod ({ cls := "StreamQueries$Plan", name := "between", desc := "(IIIII)I" } : Jvm.MethodName)) ∈ lw_tbl := lw_at lw_m4 103 rfl
theorem q985 : (Jvm.Cond.instanceMethod ({ cls := "StreamQueries$Plan", name := "between", desc := "(IIIII)I" } : Jvm.MethodName)) ∈ lw_all := lw_g (lw_at lw_m4 104 rfl) rfl
theorem q986 : (Jvm.Cond.code ({ cls := "StreamQueries$Plan", name := "between", desc := "(IIIII)I" } : Jvm.MethodName) prog_5_method_17_code (7 : Nat) (Option.some Jvm.ClassFile.FieldType.int)) ∈ lw_all := lw_g (lw_at lw_m4 105 rfl) rfl
theorem q987 : (Jvm.Cond.stringRef "StreamQueries$Plan" (427 : Nat) "+") ∈ lw_tbl := lw_at lw_m4 106 rfl
theorem q988 : (Jvm.Cond.methodLink "StreamQueries$Plan" (415 : Nat) ({ cls := "StreamQueries$Plan", name := "comparison", desc := "()I" } : Jvm.MethodName)) ∈ lw_all := lw_g (lw_at lw_m4 107 rfl) rfl
theorem q989 : (Jvm.Cond.privateMethod ({ cls := "StreamQueries$Plan", name := "comparison", desc := "()I" } : Jvm.MethodName)) ∈ lw_tbl := lw_at lw_m4 108 rfl
theorem q990 : (Jvm.Cond.instanceMethod ({ cls := "StreamQueries$Plan", name := "comparison", desc := "()I" } : Jvm.MethodName)) ∈ lw_all := lw_g (lw_at lw_m4 109 rfl) rfl
theorem q991 : (Jvm.Cond.code ({ cls := "StreamQueries$Plan", name := "comparison", desc := "()I" } : Jvm.MethodName) prog_5_method_29_code (1 : Nat) (Option.some Jvm.ClassFile.FieldType.int)) ∈ lw_all := lw_g (lw_at lw_m4 110 rfl) rfl
theorem q992 : (Jvm.Cond.stringRef "StreamQueries$Plan" (400 : Nat) "=") ∈ lw_tbl := lw_at lw_m4 111 rfl
theorem q993 : (Jvm.Cond.stringRef "StreamQueries$Plan" (402 : Nat) "<>") ∈ lw_tbl := lw_at lw_m4 112 rfl
theorem q994 : (Jvm.Cond.stringRef "StreamQueries$Plan" (404 : Nat) "<") ∈ lw_tbl := lw_at lw_m4 113 rfl
theorem q995 : (Jvm.Cond.stringRef "StreamQueries$Plan" (406 : Nat) "<=") ∈ lw_tbl := lw_at lw_m4 114 rfl
theorem q996 : (Jvm.Cond.stringRef "StreamQueries$Plan" (408 : Nat) ">") ∈ lw_tbl := lw_at lw_m4 115 rfl
theorem q997 : (Jvm.Cond.stringRef "StreamQueries$Plan" (410 : Nat) ">=") ∈ lw_tbl := lw_at lw_m4 116 rfl
theorem q998 : (Jvm.Cond.stringRef "StreamQueries$Plan" (418 : Nat) "is") ∈ lw_tbl := lw_at lw_m4 117 rfl
theorem q999 : (Jvm.Cond.stringRef "StreamQueries$Plan" (419 : Nat) "in") ∈ lw_tbl := lw_at lw_m4 118 rfl
theorem q1000 : (Jvm.Cond.stringRef "StreamQueries$Plan" (395 : Nat) "and") ∈ lw_tbl := lw_at lw_m4 119 rfl
theorem q1001 : (Jvm.Cond.stringRef "StreamQueries$Plan" (387 : Nat) "or") ∈ lw_tbl := lw_at lw_m4 120 rfl
theorem q1002 : (Jvm.Cond.stringRef "StreamQueries$Plan" (289 : Nat) "as") ∈ lw_tbl := lw_at lw_m4 121 rfl
theorem q1003 : (Jvm.Cond.methodLink "StreamQueries$Plan" (291 : Nat) ({ cls := "StreamQueries$Plan", name := "wantName", desc := "()I" } : Jvm.MethodName)) ∈ lw_all := lw_g (lw_at lw_m4 122 rfl) rfl
theorem q1004 : (Jvm.Cond.privateMethod ({ cls := "StreamQueries$Plan", name := "wantName", desc := "()I" } : Jvm.MethodName)) ∈ lw_tbl := lw_at lw_m4 123 rfl
theorem q1005 : (Jvm.Cond.instanceMethod ({ cls := "StreamQueries$Plan", name := "wantName", desc := "()I" } : Jvm.MethodName)) ∈ lw_all := lw_g (lw_at lw_m4 124 rfl) rfl
theorem q1006 : (Jvm.Cond.code ({ cls := "StreamQueries$Plan", name := "wantName", desc := "()I" } : Jvm.MethodName) prog_5_method_13_code (1 : Nat) (Option.some Jvm.ClassFile.FieldType.int)) ∈ lw_all := lw_g (lw_at lw_m4 125 rfl) rfl
theorem q1007 : (Jvm.Cond.methodLink "StreamQueries$Plan" (297 : Nat) ({ cls := "StreamQueries$Plan", name := "isAlone", desc := "(I)Z" } : Jvm.MethodName)) ∈ lw_all := lw_g (lw_at lw_m4 126 rfl) rfl
theorem q1008 : (Jvm.Cond.privateMethod ({ cls := "StreamQueries$Plan", name := "isAlone", desc := "(I)Z" } : Jvm.MethodName)) ∈ lw_tbl := lw_at lw_m4 127 rfl
theorem q1009 : (Jvm.Cond.instanceMethod ({ cls := "StreamQueries$Plan", name := "isAlone", desc := "(I)Z" } : Jvm.MethodName)) ∈ lw_all := lw_g (lw_at lw_m4 128 rfl) rfl
theorem q1010 : (Jvm.Cond.code ({ cls := "StreamQueries$Plan", name := "isAlone", desc := "(I)Z" } : Jvm.MethodName) prog_5_method_23_code (2 : Nat) (Option.some Jvm.ClassFile.FieldType.boolean)) ∈ lw_all := lw_g (lw_at lw_m4 129 rfl) rfl
theorem q1011 : (Jvm.Cond.methodLink "StreamQueries$Plan" (300 : Nat) ({ cls := "StreamQueries$Plan", name := "lastOf", desc := "(I)I" } : Jvm.MethodName)) ∈ lw_all := lw_g (lw_at lw_m4 130 rfl) rfl
theorem q1012 : (Jvm.Cond.privateMethod ({ cls := "StreamQueries$Plan", name := "lastOf", desc := "(I)I" } : Jvm.MethodName)) ∈ lw_tbl := lw_at lw_m4 131 rfl
theorem q1013 : (Jvm.Cond.instanceMethod ({ cls := "StreamQueries$Plan", name := "lastOf", desc := "(I)I" } : Jvm.MethodName)) ∈ lw_all := lw_g (lw_at lw_m4 132 rfl) rfl
theorem q1014 : (Jvm.Cond.code ({ cls := "StreamQueries$Plan", name := "lastOf", desc := "(I)I" } : Jvm.MethodName) prog_5_method_24_code (2 : Nat) (Option.some Jvm.ClassFile.FieldType.int)) ∈ lw_all := lw_g (lw_at lw_m4 133 rfl) rfl
theorem q1015 : (Jvm.Cond.stringRef "StreamQueries$Plan" (303 : Nat) "from") ∈ lw_tbl := lw_at lw_m4 134 rfl
theorem q1016 : (Jvm.Cond.methodLink "StreamQueries$Plan" (305 : Nat) ({ cls := "StreamQueries$Plan", name := "readSource", desc := "(LStreamQueries$Select;IZ)V" } : Jvm.MethodName)) ∈ lw_all := lw_g (lw_at lw_m4 135 rfl) rfl
theorem q1017 : (Jvm.Cond.privateMethod ({ cls := "StreamQueries$Plan", name := "readSource", desc := "(LStreamQueries$Select;IZ)V" } : Jvm.MethodName)) ∈ lw_tbl := lw_at lw_m4 136 rfl
theorem q1018 : (Jvm.Cond.instanceMethod ({ cls := "StreamQueries$Plan", name := "readSource", desc := "(LStreamQueries$Select;IZ)V" } : Jvm.MethodName)) ∈ lw_all := lw_g (lw_at lw_m4 137 rfl) rfl
theorem q1019 : (Jvm.Cond.code ({ cls := "StreamQueries$Plan", name := "readSource", desc := "(LStreamQueries$Select;IZ)V" } : Jvm.MethodName) prog_5_method_25_code (8 : Nat) (Option.none : Option Jvm.ClassFile.FieldType)) ∈ lw_all := lw_g (lw_at lw_m4 138 rfl) rfl
theorem q1020 : (Jvm.Cond.methodLink "StreamQueries$Plan" (362 : Nat) ({ cls := "StreamQueries$Tokens", name := "length", desc := "(I)I" } : Jvm.MethodName)) ∈ lw_all := lw_g (lw_at lw_m4 139 rfl) rfl
theorem q1024 : (Jvm.Cond.methodLink "StreamQueries$Plan" (365 : Nat) ({ cls := "StreamQueries$Tokens", name := "letter", desc := "(II)I" } : Jvm.MethodName)) ∈ lw_all := lw_g (lw_at lw_m4 143 rfl) rfl
theorem q1028 : (Jvm.Cond.constantLong "StreamQueries$Plan" (376 : Nat) (-1 : Int64)) ∈ lw_all := lw_g (lw_at lw_m4 147 rfl) rfl
theorem q1029 : (Jvm.Cond.stringRef "StreamQueries$Plan" (378 : Nat) "keep") ∈ lw_tbl := lw_at lw_m4 148 rfl
theorem q1030 : (Jvm.Cond.stringRef "StreamQueries$Plan" (309 : Nat) "join") ∈ lw_tbl := lw_at lw_m4 149 rfl
theorem q1031 : (Jvm.Cond.stringRef "StreamQueries$Plan" (311 : Nat) "left") ∈ lw_tbl := lw_at lw_m4 150 rfl
theorem q1032 : (Jvm.Cond.stringRef "StreamQueries$Plan" (313 : Nat) "on") ∈ lw_tbl := lw_at lw_m4 151 rfl
theorem q1033 : (Jvm.Cond.stringRef "StreamQueries$Plan" (318 : Nat) "where") ∈ lw_tbl := lw_at lw_m4 152 rfl
theorem q1034 : (Jvm.Cond.stringRef "StreamQueries$Plan" (322 : Nat) "group") ∈ lw_tbl := lw_at lw_m4 153 rfl
theorem q1035 : (Jvm.Cond.stringRef "StreamQueries$Plan" (235 : Nat) "by") ∈ lw_tbl := lw_at lw_m4 154 rfl
theorem q1036 : (Jvm.Cond.stringRef "StreamQueries$Plan" (335 : Nat) "having") ∈ lw_tbl := lw_at lw_m4 155 rfl
theorem q1037 : (Jvm.Cond.methodLink "StreamQueries$Plan" (220 : Nat) ({ cls := "StreamQueries$Query", name := "add", desc := "(LStreamQueries$Select;II)V" } : Jvm.MethodName)) ∈ lw_all := lw_g (lw_at lw_m4 156 rfl) rfl
theorem q1042 : (Jvm.Cond.stringRef "StreamQueries$Plan" (223 : Nat) "union") ∈ lw_tbl := lw_at lw_m4 161 rfl
theorem q1043 : (Jvm.Cond.stringRef "StreamQueries$Plan" (225 : Nat) "except") ∈ lw_tbl := lw_at lw_m4 162 rfl
theorem q1044 : (Jvm.Cond.stringRef "StreamQueries$Plan" (227 : Nat) "intersect") ∈ lw_tbl := lw_at lw_m4 163 rfl
theorem q1045 : (Jvm.Cond.stringRef "StreamQueries$Plan" (229 : Nat) "all") ∈ lw_tbl := lw_at lw_m4 164 rfl
theorem q1046 : (Jvm.Cond.stringRef "StreamQueries$Plan" (231 : Nat) "order") ∈ lw_tbl := lw_at lw_m4 165 rfl
theorem q1047 : (Jvm.Cond.stringRef "StreamQueries$Plan" (257 : Nat) "desc") ∈ lw_tbl := lw_at lw_m4 166 rfl
theorem q1048 : (Jvm.Cond.stringRef "StreamQueries$Plan" (261 : Nat) "limit") ∈ lw_tbl := lw_at lw_m4 167 rfl
theorem q1049 : (Jvm.Cond.constantLong "StreamQueries$Plan" (267 : Nat) (100 : Int64)) ∈ lw_all := lw_g (lw_at lw_m4 168 rfl) rfl
theorem q1050 : (Jvm.Cond.methodLink "StreamQueries$Plan" (203 : Nat) ({ cls := "StreamQueries$Tokens", name := "isEnd", desc := "(I)Z" } : Jvm.MethodName)) ∈ lw_all := lw_g (lw_at lw_m4 169 rfl) rfl
theorem q1054 : (Jvm.Cond.methodLink "StreamQueries$Plan" (206 : Nat) ({ cls := "StreamQueries$Plan", name := "query", desc := "(LStreamQueries$Query;)LStreamQueries$Node;" } : Jvm.MethodName)) ∈ lw_all := lw_g (lw_at lw_m4 173 rfl) rfl
theorem q1055 : (Jvm.Cond.privateMethod ({ cls := "StreamQueries$Plan", name := "query", desc := "(LStreamQueries$Query;)LStreamQueries$Node;" } : Jvm.MethodName)) ∈ lw_tbl := lw_at lw_m4 174 rfl
theorem q1056 : (Jvm.Cond.instanceMethod ({ cls := "StreamQueries$Plan", name := "query", desc := "(LStreamQueries$Query;)LStreamQueries$Node;" } : Jvm.MethodName)) ∈ lw_all := lw_g (lw_at lw_m4 175 rfl) rfl
theorem q1057 : (Jvm.Cond.code ({ cls := "StreamQueries$Plan", name := "query", desc := "(LStreamQueries$Query;)LStreamQueries$Node;" } : Jvm.MethodName) prog_5_method_40_code (9 : Nat) (Option.some (Jvm.ClassFile.FieldType.object "StreamQueries$Node"))) ∈ lw_all := lw_g (lw_at lw_m4 176 rfl) rfl
theorem q1058 : (Jvm.Cond.methodLink "StreamQueries$Plan" (477 : Nat) ({ cls := "StreamQueries$Plan", name := "select", desc := "(LStreamQueries$Select;)LStreamQueries$Node;" } : Jvm.MethodName)) ∈ lw_all := lw_g (lw_at lw_m4 177 rfl) rfl
theorem q1059 : (Jvm.Cond.privateMethod ({ cls := "StreamQueries$Plan", name := "select", desc := "(LStreamQueries$Select;)LStreamQueries$Node;" } : Jvm.MethodName)) ∈ lw_tbl := lw_at lw_m4 178 rfl
theorem q1060 : (Jvm.Cond.instanceMethod ({ cls := "StreamQueries$Plan", name := "select", desc := "(LStreamQueries$Select;)LStreamQueries$Node;" } : Jvm.MethodName)) ∈ lw_all := lw_g (lw_at lw_m4 179 rfl) rfl
theorem q1061 : (Jvm.Cond.code ({ cls := "StreamQueries$Plan", name := "select", desc := "(LStreamQueries$Select;)LStreamQueries$Node;" } : Jvm.MethodName) prog_5_method_42_code (6 : Nat) (Option.some (Jvm.ClassFile.FieldType.object "StreamQueries$Node"))) ∈ lw_all := lw_g (lw_at lw_m4 180 rfl) rfl
theorem q1062 : (Jvm.Cond.methodLink "StreamQueries$Plan" (529 : Nat) ({ cls := "StreamQueries$Plan", name := "source", desc := "(LStreamQueries$Select;I)LStreamQueries$Node;" } : Jvm.MethodName)) ∈ lw_all := lw_g (lw_at lw_m4 181 rfl) rfl
theorem q1063 : (Jvm.Cond.privateMethod ({ cls := "StreamQueries$Plan", name := "source", desc := "(LStreamQueries$Select;I)LStreamQueries$Node;" } : Jvm.MethodName)) ∈ lw_tbl := lw_at lw_m4 182 rfl
theorem q1064 : (Jvm.Cond.instanceMethod ({ cls := "StreamQueries$Plan", name := "source", desc := "(LStreamQueries$Select;I)LStreamQueries$Node;" } : Jvm.MethodName)) ∈ lw_all := lw_g (lw_at lw_m4 183 rfl) rfl
theorem q1065 : (Jvm.Cond.code ({ cls := "StreamQueries$Plan", name := "source", desc := "(LStreamQueries$Select;I)LStreamQueries$Node;" } : Jvm.MethodName) prog_5_method_44_code (8 : Nat) (Option.some (Jvm.ClassFile.FieldType.object "StreamQueries$Node"))) ∈ lw_all := lw_g (lw_at lw_m4 184 rfl) rfl
theorem q1066 : (Jvm.Cond.methodLink "StreamQueries$Plan" (510 : Nat) ({ cls := "StreamQueries$Plan", name := "make", desc := "(ILStreamQueries$Node;LStreamQueries$Node;)LStreamQueries$Node;" } : Jvm.MethodName)) ∈ lw_all := lw_g (lw_at lw_m4 185 rfl) rfl
theorem q1067 : (Jvm.Cond.privateMethod ({ cls := "StreamQueries$Plan", name := "make", desc := "(ILStreamQueries$Node;LStreamQueries$Node;)LStreamQueries$Node;" } : Jvm.MethodName)) ∈ lw_tbl := lw_at lw_m4 186 rfl
theorem q1068 : (Jvm.Cond.instanceMethod ({ cls := "StreamQueries$Plan", name := "make", desc := "(ILStreamQueries$Node;LStreamQueries$Node;)LStreamQueries$Node;" } : Jvm.MethodName)) ∈ lw_all := lw_g (lw_at lw_m4 187 rfl) rfl
theorem q1069 : (Jvm.Cond.code ({ cls := "StreamQueries$Plan", name := "make", desc := "(ILStreamQueries$Node;LStreamQueries$Node;)LStreamQueries$Node;" } : Jvm.MethodName) prog_5_method_2_code (5 : Nat) (Option.some (Jvm.ClassFile.FieldType.object "StreamQueries$Node"))) ∈ lw_all := lw_g (lw_at lw_m4 188 rfl) rfl
theorem q1071 : (Jvm.Cond.methodLink "StreamQueries$Plan" (57 : Nat) ({ cls := "StreamQueries$Node", name := "<init>", desc := "(LStreamQueries$Expressions;LStreamQueries$Pool;)V" } : Jvm.MethodName)) ∈ lw_all := lw_g (lw_at lw_m4 190 rfl) rfl
theorem q1163 : (Jvm.Cond.methodLink "StreamQueries$Plan" (60 : Nat) ({ cls := "StreamQueries$Node", name := "begin", desc := "(ILStreamQueries$Node;LStreamQueries$Node;)V" } : Jvm.MethodName)) ∈ lw_all := lw_g (lw_at lw_m5 42 rfl) rfl
theorem q1167 : (Jvm.Cond.methodLink "StreamQueries$Plan" (558 : Nat) ({ cls := "StreamQueries$Node", name := "setStream", desc := "(IJ)V" } : Jvm.MethodName)) ∈ lw_all := lw_g (lw_at lw_m5 46 rfl) rfl
theorem q1171 : (Jvm.Cond.methodLink "StreamQueries$Plan" (548 : Nat) ({ cls := "StreamQueries$Plan", name := "isSame", desc := "(II)Z" } : Jvm.MethodName)) ∈ lw_all := lw_g (lw_at lw_m5 50 rfl) rfl
theorem q1172 : (Jvm.Cond.privateMethod ({ cls := "StreamQueries$Plan", name := "isSame", desc := "(II)Z" } : Jvm.MethodName)) ∈ lw_tbl := lw_at lw_m5 51 rfl
theorem q1173 : (Jvm.Cond.instanceMethod ({ cls := "StreamQueries$Plan", name := "isSame", desc := "(II)Z" } : Jvm.MethodName)) ∈ lw_all := lw_g (lw_at lw_m5 52 rfl) rfl
theorem q1174 : (Jvm.Cond.code ({ cls := "StreamQueries$Plan", name := "isSame", desc := "(II)Z" } : Jvm.MethodName) prog_5_method_39_code (3 : Nat) (Option.some Jvm.ClassFile.FieldType.boolean)) ∈ lw_all := lw_g (lw_at lw_m5 53 rfl) rfl
theorem q1175 : (Jvm.Cond.methodLink "StreamQueries$Plan" (472 : Nat) ({ cls := "StreamQueries$Tokens", name := "alike", desc := "(II)Z" } : Jvm.MethodName)) ∈ lw_all := lw_g (lw_at lw_m5 54 rfl) rfl
theorem q1179 : (Jvm.Cond.methodLink "StreamQueries$Plan" (497 : Nat) ({ cls := "StreamQueries$Plan", name := "bounded", desc := "(ZI)V" } : Jvm.MethodName)) ∈ lw_all := lw_g (lw_at lw_m5 58 rfl) rfl
theorem q1180 : (Jvm.Cond.privateMethod ({ cls := "StreamQueries$Plan", name := "bounded", desc := "(ZI)V" } : Jvm.MethodName)) ∈ lw_tbl := lw_at lw_m5 59 rfl
theorem q1181 : (Jvm.Cond.instanceMethod ({ cls := "StreamQueries$Plan", name := "bounded", desc := "(ZI)V" } : Jvm.MethodName)) ∈ lw_all := lw_g (lw_at lw_m5 60 rfl) rfl
theorem q1182 : (Jvm.Cond.code ({ cls := "StreamQueries$Plan", name := "bounded", desc := "(ZI)V" } : Jvm.MethodName) prog_5_method_41_code (3 : Nat) (Option.none : Option Jvm.ClassFile.FieldType)) ∈ lw_all := lw_g (lw_at lw_m5 61 rfl) rfl
theorem q1183 : (Jvm.Cond.methodLink "StreamQueries$Plan" (533 : Nat) ({ cls := "StreamQueries$Plan", name := "truth", desc := "(ILStreamQueries$Select;I)V" } : Jvm.MethodName)) ∈ lw_all := lw_g (lw_at lw_m5 62 rfl) rfl
theorem q1184 : (Jvm.Cond.privateMethod ({ cls := "StreamQueries$Plan", name := "truth", desc := "(ILStreamQueries$Select;I)V" } : Jvm.MethodName)) ∈ lw_tbl := lw_at lw_m5 63 rfl
theorem q1185 : (Jvm.Cond.instanceMethod ({ cls := "StreamQueries$Plan", name := "truth", desc := "(ILStreamQueries$Select;I)V" } : Jvm.MethodName)) ∈ lw_all := lw_g (lw_at lw_m5 64 rfl) rfl
theorem q1186 : (Jvm.Cond.code ({ cls := "StreamQueries$Plan", name := "truth", desc := "(ILStreamQueries$Select;I)V" } : Jvm.MethodName) prog_5_method_45_code (4 : Nat) (Option.none : Option Jvm.ClassFile.FieldType)) ∈ lw_all := lw_g (lw_at lw_m5 65 rfl) rfl
theorem q1187 : (Jvm.Cond.methodLink "StreamQueries$Plan" (514 : Nat) ({ cls := "StreamQueries$Plan", name := "check", desc := "(ILStreamQueries$Select;LStreamQueries$Query;I)V" } : Jvm.MethodName)) ∈ lw_all := lw_g (lw_at lw_m5 66 rfl) rfl
theorem q1188 : (Jvm.Cond.privateMethod ({ cls := "StreamQueries$Plan", name := "check", desc := "(ILStreamQueries$Select;LStreamQueries$Query;I)V" } : Jvm.MethodName)) ∈ lw_tbl := lw_at lw_m5 67 rfl
theorem q1189 : (Jvm.Cond.instanceMethod ({ cls := "StreamQueries$Plan", name := "check", desc := "(ILStreamQueries$Select;LStreamQueries$Query;I)V" } : Jvm.MethodName)) ∈ lw_all := lw_g (lw_at lw_m5 68 rfl) rfl
theorem q1190 : (Jvm.Cond.code ({ cls := "StreamQueries$Plan", name := "check", desc := "(ILStreamQueries$Select;LStreamQueries$Query;I)V" } : Jvm.MethodName) prog_5_method_48_code (10 : Nat) (Option.none : Option Jvm.ClassFile.FieldType)) ∈ lw_all := lw_g (lw_at lw_m5 69 rfl) rfl
theorem q1191 : (Jvm.Cond.methodLink "StreamQueries$Plan" (574 : Nat) ({ cls := "StreamQueries$Plan", name := "column", desc := "(ILStreamQueries$Select;LStreamQueries$Query;I)V" } : Jvm.MethodName)) ∈ lw_all := lw_g (lw_at lw_m5 70 rfl) rfl
theorem q1192 : (Jvm.Cond.privateMethod ({ cls := "StreamQueries$Plan", name := "column", desc := "(ILStreamQueries$Select;LStreamQueries$Query;I)V" } : Jvm.MethodName)) ∈ lw_tbl := lw_at lw_m5 71 rfl
theorem q1193 : (Jvm.Cond.instanceMethod ({ cls := "StreamQueries$Plan", name := "column", desc := "(ILStreamQueries$Select;LStreamQueries$Query;I)V" } : Jvm.MethodName)) ∈ lw_all := lw_g (lw_at lw_m5 72 rfl) rfl
theorem q1194 : (Jvm.Cond.code ({ cls := "StreamQueries$Plan", name := "column", desc := "(ILStreamQueries$Select;LStreamQueries$Query;I)V" } : Jvm.MethodName) prog_5_method_50_code (11 : Nat) (Option.none : Option Jvm.ClassFile.FieldType)) ∈ lw_all := lw_g (lw_at lw_m5 73 rfl) rfl
theorem q1195 : (Jvm.Cond.methodLink "StreamQueries$Plan" (586 : Nat) ({ cls := "StreamQueries$Plan", name := "columnOf", desc := "(LStreamQueries$Select;II)I" } : Jvm.MethodName)) ∈ lw_all := lw_g (lw_at lw_m5 74 rfl) rfl
theorem q1196 : (Jvm.Cond.privateMethod ({ cls := "StreamQueries$Plan", name := "columnOf", desc := "(LStreamQueries$Select;II)I" } : Jvm.MethodName)) ∈ lw_tbl := lw_at lw_m5 75 rfl
theorem q1197 : (Jvm.Cond.instanceMethod ({ cls := "StreamQueries$Plan", name := "columnOf", desc := "(LStreamQueries$Select;II)I" } : Jvm.MethodName)) ∈ lw_all := lw_g (lw_at lw_m5 76 rfl) rfl
theorem q1198 : (Jvm.Cond.code ({ cls := "StreamQueries$Plan", name := "columnOf", desc := "(LStreamQueries$Select;II)I" } : Jvm.MethodName) prog_5_method_51_code (7 : Nat) (Option.some Jvm.ClassFile.FieldType.int)) ∈ lw_all := lw_g (lw_at lw_m5 77 rfl) rfl
theorem q1199 : (Jvm.Cond.methodLink "StreamQueries$Plan" (565 : Nat) ({ cls := "StreamQueries$Plan", name := "wants", desc := "(II)V" } : Jvm.MethodName)) ∈ lw_all := lw_g (lw_at lw_m5 78 rfl) rfl
theorem q1200 : (Jvm.Cond.privateMethod ({ cls := "StreamQueries$Plan", name := "wants", desc := "(II)V" } : Jvm.MethodName)) ∈ lw_tbl := lw_at lw_m5 79 rfl
theorem q1201 : (Jvm.Cond.instanceMethod ({ cls := "StreamQueries$Plan", name := "wants", desc := "(II)V" } : Jvm.MethodName)) ∈ lw_all := lw_g (lw_at lw_m5 80 rfl) rfl
theorem q1202 : (Jvm.Cond.code ({ cls := "StreamQueries$Plan", name := "wants", desc := "(II)V" } : Jvm.MethodName) prog_5_method_46_code (3 : Nat) (Option.none : Option Jvm.ClassFile.FieldType)) ∈ lw_all := lw_g (lw_at lw_m5 81 rfl) rfl
theorem q1203 : (Jvm.Cond.methodLink "StreamQueries$Plan" (571 : Nat) ({ cls := "StreamQueries$Plan", name := "start", desc := "(I)I" } : Jvm.MethodName)) ∈ lw_all := lw_g (lw_at lw_m5 82 rfl) rfl
theorem q1204 : (Jvm.Cond.privateMethod ({ cls := "StreamQueries$Plan", name := "start", desc := "(I)I" } : Jvm.MethodName)) ∈ lw_tbl := lw_at lw_m5 83 rfl
theorem q1205 : (Jvm.Cond.instanceMethod ({ cls := "StreamQueries$Plan", name := "start", desc := "(I)I" } : Jvm.MethodName)) ∈ lw_all := lw_g (lw_at lw_m5 84 rfl) rfl
theorem q1206 : (Jvm.Cond.code ({ cls := "StreamQueries$Plan", name := "start", desc := "(I)I" } : Jvm.MethodName) prog_5_method_47_code (2 : Nat) (Option.some Jvm.ClassFile.FieldType.int)) ∈ lw_all := lw_g (lw_at lw_m5 85 rfl) rfl
theorem q1207 : (Jvm.Cond.methodLink "StreamQueries$Plan" (580 : Nat) ({ cls := "StreamQueries$Plan", name := "aggregate", desc := "(ILStreamQueries$Select;)V" } : Jvm.MethodName)) ∈ lw_all := lw_g (lw_at lw_m5 86 rfl) rfl
theorem q1208 : (Jvm.Cond.privateMethod ({ cls := "StreamQueries$Plan", name := "aggregate", desc := "(ILStreamQueries$Select;)V" } : Jvm.MethodName)) ∈ lw_tbl := lw_at lw_m5 87 rfl
theorem q1209 : (Jvm.Cond.instanceMethod ({ cls := "StreamQueries$Plan", name := "aggregate", desc := "(ILStreamQueries$Select;)V" } : Jvm.MethodName)) ∈ lw_all := lw_g (lw_at lw_m5 88 rfl) rfl
theorem q1210 : (Jvm.Cond.code ({ cls := "StreamQueries$Plan", name := "aggregate", desc := "(ILStreamQueries$Select;)V" } : Jvm.MethodName) prog_5_method_49_code (4 : Nat) (Option.none : Option Jvm.ClassFile.FieldType)) ∈ lw_all := lw_g (lw_at lw_m5 89 rfl) rfl
theorem q1211 : (Jvm.Cond.methodLink "StreamQueries$Plan" (540 : Nat) ({ cls := "StreamQueries$Node", name := "setCondition", desc := "(IZI)V" } : Jvm.MethodName)) ∈ lw_all := lw_g (lw_at lw_m5 90 rfl) rfl
theorem q1215 : (Jvm.Cond.methodLink "StreamQueries$Plan" (544 : Nat) ({ cls := "StreamQueries$Plan", name := "filter", desc := "(LStreamQueries$Node;I)LStreamQueries$Node;" } : Jvm.MethodName)) ∈ lw_all := lw_g (lw_at lw_m5 94 rfl) rfl
theorem q1216 : (Jvm.Cond.privateMethod ({ cls := "StreamQueries$Plan", name := "filter", desc := "(LStreamQueries$Node;I)LStreamQueries$Node;" } : Jvm.MethodName)) ∈ lw_tbl := lw_at lw_m5 95 rfl
theorem q1217 : (Jvm.Cond.instanceMethod ({ cls := "StreamQueries$Plan", name := "filter", desc := "(LStreamQueries$Node;I)LStreamQueries$Node;" } : Jvm.MethodName)) ∈ lw_all := lw_g (lw_at lw_m5 96 rfl) rfl
theorem q1218 : (Jvm.Cond.code ({ cls := "StreamQueries$Plan", name := "filter", desc := "(LStreamQueries$Node;I)LStreamQueries$Node;" } : Jvm.MethodName) prog_5_method_43_code (4 : Nat) (Option.some (Jvm.ClassFile.FieldType.object "StreamQueries$Node"))) ∈ lw_all := lw_g (lw_at lw_m5 97 rfl) rfl
theorem q1219 : (Jvm.Cond.methodLink "StreamQueries$Plan" (518 : Nat) ({ cls := "StreamQueries$Node", name := "setList", desc := "([II)V" } : Jvm.MethodName)) ∈ lw_all := lw_g (lw_at lw_m5 98 rfl) rfl
theorem q1224 : (Jvm.Cond.methodLink "StreamQueries$Plan" (552 : Nat) ({ cls := "StreamQueries$Node", name := "setAggregates", desc := "([II)V" } : Jvm.MethodName)) ∈ lw_all := lw_g (lw_at lw_m5 103 rfl) rfl
theorem q1228 : (Jvm.Cond.methodLink "StreamQueries$Plan" (480 : Nat) ({ cls := "StreamQueries$Query", name := "take", desc := "(LStreamQueries$Select;)V" } : Jvm.MethodName)) ∈ lw_all := lw_g (lw_at lw_m5 107 rfl) rfl
theorem q1232 : (Jvm.Cond.methodLink "StreamQueries$Plan" (522 : Nat) ({ cls := "StreamQueries$Node", name := "setOrder", desc := "([ZII)V" } : Jvm.MethodName)) ∈ lw_all := lw_g (lw_at lw_m5 111 rfl) rfl
theorem q1237 : (Jvm.Cond.instanceMethod ({ cls := "StreamQueries$Plan", name := "fault", desc := "()I" } : Jvm.MethodName)) ∈ lw_all := lw_g (lw_at lw_m5 116 rfl) rfl
theorem q1238 : (Jvm.Cond.selects "StreamQueries$Plan" ({ cls := "StreamQueries$Plan", name := "fault", desc := "()I" } : Jvm.MethodName) ({ cls := "StreamQueries$Plan", name := "fault", desc := "()I" } : Jvm.MethodName)) ∈ lw_all := lw_g (lw_at lw_m5 117 rfl) rfl
theorem q1239 : (Jvm.Cond.code ({ cls := "StreamQueries$Plan", name := "fault", desc := "()I" } : Jvm.MethodName) prog_5_method_5_code (1 : Nat) (Option.some Jvm.ClassFile.FieldType.int)) ∈ lw_all := lw_g (lw_at lw_m5 118 rfl) rfl
theorem q1241 : (Jvm.Cond.instanceMethod ({ cls := "StreamQueries$Plan", name := "place", desc := "()I" } : Jvm.MethodName)) ∈ lw_all := lw_g (lw_at lw_m5 120 rfl) rfl
theorem q1242 : (Jvm.Cond.selects "StreamQueries$Plan" ({ cls := "StreamQueries$Plan", name := "place", desc := "()I" } : Jvm.MethodName) ({ cls := "StreamQueries$Plan", name := "place", desc := "()I" } : Jvm.MethodName)) ∈ lw_all := lw_g (lw_at lw_m5 121 rfl) rfl
theorem q1243 : (Jvm.Cond.code ({ cls := "StreamQueries$Plan", name := "place", desc := "()I" } : Jvm.MethodName) prog_5_method_6_code (1 : Nat) (Option.some Jvm.ClassFile.FieldType.int)) ∈ lw_all := lw_g (lw_at lw_m5 122 rfl) rfl
theorem q1246 : (Jvm.Cond.instanceMethod ({ cls := "StreamQueries$Plan", name := "start", desc := "(J)V" } : Jvm.MethodName)) ∈ lw_all := lw_g (lw_at lw_m5 125 rfl) rfl
theorem q1247 : (Jvm.Cond.selects "StreamQueries$Plan" ({ cls := "StreamQueries$Plan", name := "start", desc := "(J)V" } : Jvm.MethodName) ({ cls := "StreamQueries$Plan", name := "start", desc := "(J)V" } : Jvm.MethodName)) ∈ lw_all := lw_g (lw_at lw_m5 126 rfl) rfl
theorem q1248 : (Jvm.Cond.code ({ cls := "StreamQueries$Plan", name := "start", desc := "(J)V" } : Jvm.MethodName) prog_5_method_59_code (3 : Nat) (Option.none : Option Jvm.ClassFile.FieldType)) ∈ lw_all := lw_g (lw_at lw_m5 127 rfl) rfl
theorem q1249 : (Jvm.Cond.methodLink "StreamQueries$Plan" (612 : Nat) ({ cls := "StreamQueries$Node", name := "start", desc := "(J)V" } : Jvm.MethodName)) ∈ lw_all := lw_g (lw_at lw_m5 128 rfl) rfl
theorem q1458 : (Jvm.Cond.instanceMethod ({ cls := "StreamQueries$Plan", name := "feed", desc := "(ILStreamQueries$Bag;LStreamQueries$Bag;)V" } : Jvm.MethodName)) ∈ lw_all := lw_g (lw_at lw_m6 97 rfl) rfl
theorem q1459 : (Jvm.Cond.selects "StreamQueries$Plan" ({ cls := "StreamQueries$Plan", name := "feed", desc := "(ILStreamQueries$Bag;LStreamQueries$Bag;)V" } : Jvm.MethodName) ({ cls := "StreamQueries$Plan", name := "feed", desc := "(ILStreamQueries$Bag;LStreamQueries$Bag;)V" } : Jvm.MethodName)) ∈ lw_all := lw_g (lw_at lw_m6 98 rfl) rfl
theorem q1460 : (Jvm.Cond.code ({ cls := "StreamQueries$Plan", name := "feed", desc := "(ILStreamQueries$Bag;LStreamQueries$Bag;)V" } : Jvm.MethodName) prog_5_method_60_code (4 : Nat) (Option.none : Option Jvm.ClassFile.FieldType)) ∈ lw_all := lw_g (lw_at lw_m6 99 rfl) rfl
theorem q1461 : (Jvm.Cond.methodLink "StreamQueries$Plan" (615 : Nat) ({ cls := "StreamQueries$Node", name := "feed", desc := "(ILStreamQueries$Bag;ZJ)V" } : Jvm.MethodName)) ∈ lw_all := lw_g (lw_at lw_m6 100 rfl) rfl
theorem q1475 : (Jvm.Cond.methodLink "StreamQueries$Plan" (619 : Nat) ({ cls := "StreamQueries$Node", name := "delta", desc := "()LStreamQueries$Bag;" } : Jvm.MethodName)) ∈ lw_all := lw_g (lw_at lw_m6 114 rfl) rfl
theorem q1479 : (Jvm.Cond.methodLink "StreamQueries$Plan" (622 : Nat) ({ cls := "StreamQueries$Bag", name := "sortBySign", desc := "(LStreamQueries$Bag;)V" } : Jvm.MethodName)) ∈ lw_all := lw_g (lw_at lw_m6 118 rfl) rfl
theorem q1489 : (Jvm.Cond.instanceMethod ({ cls := "StreamQueries$Plan", name := "columns", desc := "()I" } : Jvm.MethodName)) ∈ lw_all := lw_g (lw_at lw_m6 128 rfl) rfl
theorem q1490 : (Jvm.Cond.selects "StreamQueries$Plan" ({ cls := "StreamQueries$Plan", name := "columns", desc := "()I" } : Jvm.MethodName) ({ cls := "StreamQueries$Plan", name := "columns", desc := "()I" } : Jvm.MethodName)) ∈ lw_all := lw_g (lw_at lw_m6 129 rfl) rfl
theorem q1491 : (Jvm.Cond.code ({ cls := "StreamQueries$Plan", name := "columns", desc := "()I" } : Jvm.MethodName) prog_5_method_52_code (1 : Nat) (Option.some Jvm.ClassFile.FieldType.int)) ∈ lw_all := lw_g (lw_at lw_m6 130 rfl) rfl
theorem q1525 : (Jvm.Cond.instanceMethod ({ cls := "StreamQueries$Plan", name := "age", desc := "(JLStreamQueries$Bag;)V" } : Jvm.MethodName)) ∈ lw_all := lw_g (lw_at lw_m6 164 rfl) rfl
theorem q1526 : (Jvm.Cond.selects "StreamQueries$Plan" ({ cls := "StreamQueries$Plan", name := "age", desc := "(JLStreamQueries$Bag;)V" } : Jvm.MethodName) ({ cls := "StreamQueries$Plan", name := "age", desc := "(JLStreamQueries$Bag;)V" } : Jvm.MethodName)) ∈ lw_all := lw_g (lw_at lw_m6 165 rfl) rfl
theorem q1527 : (Jvm.Cond.code ({ cls := "StreamQueries$Plan", name := "age", desc := "(JLStreamQueries$Bag;)V" } : Jvm.MethodName) prog_5_method_61_code (4 : Nat) (Option.none : Option Jvm.ClassFile.FieldType)) ∈ lw_all := lw_g (lw_at lw_m6 166 rfl) rfl
theorem q1558 : (Jvm.Cond.instanceMethod ({ cls := "StreamQueries$Plan", name := "rows", desc := "()I" } : Jvm.MethodName)) ∈ lw_all := lw_g (lw_at lw_m6 197 rfl) rfl
theorem q1559 : (Jvm.Cond.selects "StreamQueries$Plan" ({ cls := "StreamQueries$Plan", name := "rows", desc := "()I" } : Jvm.MethodName) ({ cls := "StreamQueries$Plan", name := "rows", desc := "()I" } : Jvm.MethodName)) ∈ lw_all := lw_g (lw_at lw_m6 198 rfl) rfl
theorem q1560 : (Jvm.Cond.code ({ cls := "StreamQueries$Plan", name := "rows", desc := "()I" } : Jvm.MethodName) prog_5_method_54_code (1 : Nat) (Option.some Jvm.ClassFile.FieldType.int)) ∈ lw_all := lw_g (lw_at lw_m6 199 rfl) rfl
theorem q1561 : (Jvm.Cond.methodLink "StreamQueries$Plan" (590 : Nat) ({ cls := "StreamQueries$Node", name := "out", desc := "()LStreamQueries$Bag;" } : Jvm.MethodName)) ∈ lw_all := lw_g (lw_at lw_m6 200 rfl) rfl
theorem q1565 : (Jvm.Cond.methodLink "StreamQueries$Plan" (594 : Nat) ({ cls := "StreamQueries$Bag", name := "total", desc := "()I" } : Jvm.MethodName)) ∈ lw_all := lw_g (lw_at lw_m6 204 rfl) rfl
theorem q1578 : (Jvm.Cond.instanceMethod ({ cls := "StreamQueries$Plan", name := "answer", desc := "(I)LStreamQueries$Row;" } : Jvm.MethodName)) ∈ lw_all := lw_g (lw_at lw_m6 217 rfl) rfl
theorem q1579 : (Jvm.Cond.selects "StreamQueries$Plan" ({ cls := "StreamQueries$Plan", name := "answer", desc := "(I)LStreamQueries$Row;" } : Jvm.MethodName) ({ cls := "StreamQueries$Plan", name := "answer", desc := "(I)LStreamQueries$Row;" } : Jvm.MethodName)) ∈ lw_all := lw_g (lw_at lw_m6 218 rfl) rfl
theorem q1580 : (Jvm.Cond.code ({ cls := "StreamQueries$Plan", name := "answer", desc := "(I)LStreamQueries$Row;" } : Jvm.MethodName) prog_5_method_55_code (2 : Nat) (Option.some (Jvm.ClassFile.FieldType.object "StreamQueries$Row"))) ∈ lw_all := lw_g (lw_at lw_m6 219 rfl) rfl
theorem q1581 : (Jvm.Cond.methodLink "StreamQueries$Plan" (599 : Nat) ({ cls := "StreamQueries$Node", name := "answer", desc := "(I)LStreamQueries$Row;" } : Jvm.MethodName)) ∈ lw_all := lw_g (lw_at lw_m6 220 rfl) rfl
theorem q1594 : (Jvm.Cond.instanceMethod ({ cls := "StreamQueries$Plan", name := "type", desc := "(I)I" } : Jvm.MethodName)) ∈ lw_all := lw_g (lw_at lw_m6 233 rfl) rfl
theorem q1595 : (Jvm.Cond.selects "StreamQueries$Plan" ({ cls := "StreamQueries$Plan", name := "type", desc := "(I)I" } : Jvm.MethodName) ({ cls := "StreamQueries$Plan", name := "type", desc := "(I)I" } : Jvm.MethodName)) ∈ lw_all := lw_g (lw_at lw_m6 234 rfl) rfl
theorem q1596 : (Jvm.Cond.code ({ cls := "StreamQueries$Plan", name := "type", desc := "(I)I" } : Jvm.MethodName) prog_5_method_53_code (2 : Nat) (Option.some Jvm.ClassFile.FieldType.int)) ∈ lw_all := lw_g (lw_at lw_m6 235 rfl) rfl
theorem q1606 : (Jvm.Cond.instanceMethod ({ cls := "StreamQueries$Plan", name := "held", desc := "()I" } : Jvm.MethodName)) ∈ lw_all := lw_g (lw_at lw_m7 5 rfl) rfl
theorem q1607 : (Jvm.Cond.selects "StreamQueries$Plan" ({ cls := "StreamQueries$Plan", name := "held", desc := "()I" } : Jvm.MethodName) ({ cls := "StreamQueries$Plan", name := "held", desc := "()I" } : Jvm.MethodName)) ∈ lw_all := lw_g (lw_at lw_m7 6 rfl) rfl
theorem q1608 : (Jvm.Cond.code ({ cls := "StreamQueries$Plan", name := "held", desc := "()I" } : Jvm.MethodName) prog_5_method_58_code (1 : Nat) (Option.some Jvm.ClassFile.FieldType.int)) ∈ lw_all := lw_g (lw_at lw_m7 7 rfl) rfl
theorem q1609 : (Jvm.Cond.methodLink "StreamQueries$Plan" (605 : Nat) ({ cls := "StreamQueries$Node", name := "held", desc := "()I" } : Jvm.MethodName)) ∈ lw_all := lw_g (lw_at lw_m7 8 rfl) rfl
theorem q1616 : (Jvm.Cond.instanceMethod ({ cls := "StreamQueries$Plan", name := "expressions", desc := "()I" } : Jvm.MethodName)) ∈ lw_all := lw_g (lw_at lw_m7 15 rfl) rfl
theorem q1617 : (Jvm.Cond.selects "StreamQueries$Plan" ({ cls := "StreamQueries$Plan", name := "expressions", desc := "()I" } : Jvm.MethodName) ({ cls := "StreamQueries$Plan", name := "expressions", desc := "()I" } : Jvm.MethodName)) ∈ lw_all := lw_g (lw_at lw_m7 16 rfl) rfl
theorem q1618 : (Jvm.Cond.code ({ cls := "StreamQueries$Plan", name := "expressions", desc := "()I" } : Jvm.MethodName) prog_5_method_56_code (1 : Nat) (Option.some Jvm.ClassFile.FieldType.int)) ∈ lw_all := lw_g (lw_at lw_m7 17 rfl) rfl
theorem q1619 : (Jvm.Cond.methodLink "StreamQueries$Plan" (603 : Nat) ({ cls := "StreamQueries$Expressions", name := "size", desc := "()I" } : Jvm.MethodName)) ∈ lw_all := lw_g (lw_at lw_m7 18 rfl) rfl
theorem q1624 : (Jvm.Cond.instanceMethod ({ cls := "StreamQueries$Plan", name := "sources", desc := "()I" } : Jvm.MethodName)) ∈ lw_all := lw_g (lw_at lw_m7 23 rfl) rfl
theorem q1625 : (Jvm.Cond.selects "StreamQueries$Plan" ({ cls := "StreamQueries$Plan", name := "sources", desc := "()I" } : Jvm.MethodName) ({ cls := "StreamQueries$Plan", name := "sources", desc := "()I" } : Jvm.MethodName)) ∈ lw_all := lw_g (lw_at lw_m7 24 rfl) rfl
theorem q1626 : (Jvm.Cond.code ({ cls := "StreamQueries$Plan", name := "sources", desc := "()I" } : Jvm.MethodName) prog_5_method_57_code (1 : Nat) (Option.some Jvm.ClassFile.FieldType.int)) ∈ lw_all := lw_g (lw_at lw_m7 25 rfl) rfl
theorem in_X3 : ∀ w ∈ wsX30, w ∈ lw_all := lw_in wsX30 [352, 354, 356, 358, 360, 362, 364, 366, 368, 370, 372, 374, 376, 378, 380, 382, 384, 386, 388, 390, 392, 394] (by decide +kernel) (by decide +kernel)
def RX4 : String := "StreamQueries$Tokens"
def TX4 : u_T := fun k => match k with
  | 0 => ("StreamQueries$Tokens", "bytes", "[B", true)
  | 1 => ("StreamQueries$Tokens", "size", "I", false)
  | 2 => ("StreamQueries$Tokens", "kinds", "[I", true)
  | 3 => ("StreamQueries$Tokens", "from", "[I", true)
  | 4 => ("StreamQueries$Tokens", "to", "[I", true)
  | 5 => ("StreamQueries$Tokens", "numbers", "[J", true)
  | _ => ("StreamQueries$Tokens", "isTaken", "[Z", true)
def tyX4 : Nat → FieldType := fun k => match k with
  | 0 => .array .byte
  | 1 => .int
  | 2 => .array .int
  | 3 => .array .int
  | 4 => .array .int
  | 5 => .array .long
  | _ => .array .boolean
abbrev wsX40 : List Cond := u_ws RX4 TX4 7
theorem nmX4 : ∀ a, a < 7 → ∀ b, b < 7 → a ≠ b → (TX4 a).2.1 ≠ (TX4 b).2.1 := by decide +kernel
theorem tyX4_ok : ∀ k, k < 7 → parseFieldDescriptor (TX4 k).2.2.1 = some (tyX4 k) := by decide +kernel
abbrev cX4_init : ByteArray := prog_10_method_1_code
def yX4_init : MethodName := ⟨RX4, "<init>", "()V"⟩
abbrev cX4_read : ByteArray := prog_10_method_2_code
def yX4_read : MethodName := ⟨RX4, "read", "([BI)V"⟩
abbrev cX4_one : ByteArray := prog_10_method_7_code
def yX4_one : MethodName := ⟨RX4, "one", "(II)I"⟩
abbrev cX4_peek : ByteArray := prog_10_method_6_code
def yX4_peek : MethodName := ⟨RX4, "peek", "(I)I"⟩
abbrev cX4_isLetter : ByteArray := prog_10_method_4_code
def yX4_isLetter : MethodName := ⟨RX4, "isLetter", "(I)Z"⟩
abbrev cX4_isDigit : ByteArray := prog_10_method_5_code
def yX4_isDigit : MethodName := ⟨RX4, "isDigit", "(I)Z"⟩
abbrev cX4_isTaken : ByteArray := prog_10_method_3_code
def yX4_isTaken : MethodName := ⟨RX4, "isTaken", "(II)Z"⟩
abbrev cX4_is : ByteArray := prog_10_method_11_code
def yX4_is : MethodName := ⟨RX4, "is", "(ILjava/lang/String;)Z"⟩
abbrev cX4_place : ByteArray := prog_10_method_13_code
def yX4_place : MethodName := ⟨RX4, "place", "(I)I"⟩
abbrev cX4_isNumber : ByteArray := prog_10_method_9_code
def yX4_isNumber : MethodName := ⟨RX4, "isNumber", "(I)Z"⟩
abbrev cX4_isName : ByteArray := prog_10_method_10_code
def yX4_isName : MethodName := ⟨RX4, "isName", "(I)Z"⟩
abbrev cX4_number : ByteArray := prog_10_method_14_code
def yX4_number : MethodName := ⟨RX4, "number", "(I)J"⟩
abbrev cX4_length : ByteArray := prog_10_method_15_code
def yX4_length : MethodName := ⟨RX4, "length", "(I)I"⟩
abbrev cX4_letter : ByteArray := prog_10_method_16_code
def yX4_letter : MethodName := ⟨RX4, "letter", "(II)I"⟩
abbrev cX4_isEnd : ByteArray := prog_10_method_8_code
def yX4_isEnd : MethodName := ⟨RX4, "isEnd", "(I)Z"⟩
abbrev cX4_alike : ByteArray := prog_10_method_12_code
def yX4_alike : MethodName := ⟨RX4, "alike", "(II)Z"⟩
theorem q166 : (Jvm.Cond.initialized "StreamQueries$Tokens") ∈ lw_all := lw_g (lw_at lw_m1 5 rfl) rfl
theorem q238 : (Jvm.Cond.instantiable "StreamQueries$Tokens" (7 : Nat)) ∈ lw_all := lw_g (lw_at lw_m1 77 rfl) rfl
theorem q240 : (Jvm.Cond.instanceMethod ({ cls := "StreamQueries$Tokens", name := "<init>", desc := "()V" } : Jvm.MethodName)) ∈ lw_all := lw_g (lw_at lw_m1 79 rfl) rfl
theorem q241 : (Jvm.Cond.code ({ cls := "StreamQueries$Tokens", name := "<init>", desc := "()V" } : Jvm.MethodName) prog_10_method_1_code (1 : Nat) (Option.none : Option Jvm.ClassFile.FieldType)) ∈ lw_all := lw_g (lw_at lw_m1 80 rfl) rfl
theorem q242 : (Jvm.Cond.methodLink "StreamQueries$Tokens" (3 : Nat) ({ cls := "java/lang/Object", name := "<init>", desc := "()V" } : Jvm.MethodName)) ∈ lw_all := lw_g (lw_at lw_m1 81 rfl) rfl
theorem q243 : (Jvm.Cond.fieldLink "StreamQueries$Tokens" (9 : Nat) "StreamQueries$Tokens" "bytes" "[B") ∈ lw_all := lw_g (lw_at lw_m1 82 rfl) rfl
theorem q244 : (Jvm.Cond.fieldLink "StreamQueries$Tokens" (39 : Nat) "StreamQueries$Tokens" "size" "I") ∈ lw_all := lw_g (lw_at lw_m1 83 rfl) rfl
theorem q245 : (Jvm.Cond.fieldLink "StreamQueries$Tokens" (15 : Nat) "StreamQueries$Tokens" "kinds" "[I") ∈ lw_all := lw_g (lw_at lw_m1 84 rfl) rfl
theorem q246 : (Jvm.Cond.fieldLink "StreamQueries$Tokens" (19 : Nat) "StreamQueries$Tokens" "from" "[I") ∈ lw_all := lw_g (lw_at lw_m1 85 rfl) rfl
theorem q247 : (Jvm.Cond.fieldLink "StreamQueries$Tokens" (22 : Nat) "StreamQueries$Tokens" "to" "[I") ∈ lw_all := lw_g (lw_at lw_m1 86 rfl) rfl
theorem q248 : (Jvm.Cond.fieldLink "StreamQueries$Tokens" (25 : Nat) "StreamQueries$Tokens" "numbers" "[J") ∈ lw_all := lw_g (lw_at lw_m1 87 rfl) rfl
theorem q249 : (Jvm.Cond.fieldLink "StreamQueries$Tokens" (29 : Nat) "StreamQueries$Tokens" "isTaken" "[Z") ∈ lw_all := lw_g (lw_at lw_m1 88 rfl) rfl
theorem q250 : (Jvm.Cond.laysFinal "StreamQueries$Tokens" "StreamQueries$Tokens" "bytes" "[B") ∈ lw_all := lw_g (lw_at lw_m1 89 rfl) rfl
theorem q251 : (Jvm.Cond.soleField "StreamQueries$Tokens" "bytes") ∈ lw_all := lw_g (lw_at lw_m1 90 rfl) rfl
theorem q252 : (Jvm.Cond.lays "StreamQueries$Tokens" "StreamQueries$Tokens" "size" "I") ∈ lw_all := lw_g (lw_at lw_m1 91 rfl) rfl
theorem q253 : (Jvm.Cond.soleField "StreamQueries$Tokens" "size") ∈ lw_all := lw_g (lw_at lw_m1 92 rfl) rfl
theorem q254 : (Jvm.Cond.laysFinal "StreamQueries$Tokens" "StreamQueries$Tokens" "kinds" "[I") ∈ lw_all := lw_g (lw_at lw_m1 93 rfl) rfl
theorem q255 : (Jvm.Cond.soleField "StreamQueries$Tokens" "kinds") ∈ lw_all := lw_g (lw_at lw_m1 94 rfl) rfl
theorem q256 : (Jvm.Cond.laysFinal "StreamQueries$Tokens" "StreamQueries$Tokens" "from" "[I") ∈ lw_all := lw_g (lw_at lw_m1 95 rfl) rfl
theorem q257 : (Jvm.Cond.soleField "StreamQueries$Tokens" "from") ∈ lw_all := lw_g (lw_at lw_m1 96 rfl) rfl
theorem q258 : (Jvm.Cond.laysFinal "StreamQueries$Tokens" "StreamQueries$Tokens" "to" "[I") ∈ lw_all := lw_g (lw_at lw_m1 97 rfl) rfl
theorem q259 : (Jvm.Cond.soleField "StreamQueries$Tokens" "to") ∈ lw_all := lw_g (lw_at lw_m1 98 rfl) rfl
theorem q260 : (Jvm.Cond.laysFinal "StreamQueries$Tokens" "StreamQueries$Tokens" "numbers" "[J") ∈ lw_all := lw_g (lw_at lw_m1 99 rfl) rfl
theorem q261 : (Jvm.Cond.soleField "StreamQueries$Tokens" "numbers") ∈ lw_all := lw_g (lw_at lw_m1 100 rfl) rfl
theorem q262 : (Jvm.Cond.laysFinal "StreamQueries$Tokens" "StreamQueries$Tokens" "isTaken" "[Z") ∈ lw_all := lw_g (lw_at lw_m1 101 rfl) rfl
theorem q263 : (Jvm.Cond.soleField "StreamQueries$Tokens" "isTaken") ∈ lw_all := lw_g (lw_at lw_m1 102 rfl) rfl
theorem q264 : (Jvm.Cond.superclass "StreamQueries$Tokens" "java/lang/Object") ∈ lw_all := lw_g (lw_at lw_m1 103 rfl) rfl
theorem q508 : (Jvm.Cond.instanceMethod ({ cls := "StreamQueries$Tokens", name := "read", desc := "([BI)V" } : Jvm.MethodName)) ∈ lw_all := lw_g (lw_at lw_m2 107 rfl) rfl
theorem q509 : (Jvm.Cond.selects "StreamQueries$Tokens" ({ cls := "StreamQueries$Tokens", name := "read", desc := "([BI)V" } : Jvm.MethodName) ({ cls := "StreamQueries$Tokens", name := "read", desc := "([BI)V" } : Jvm.MethodName)) ∈ lw_all := lw_g (lw_at lw_m2 108 rfl) rfl
theorem q510 : (Jvm.Cond.code ({ cls := "StreamQueries$Tokens", name := "read", desc := "([BI)V" } : Jvm.MethodName) prog_10_method_2_code (6 : Nat) (Option.none : Option Jvm.ClassFile.FieldType)) ∈ lw_all := lw_g (lw_at lw_m2 109 rfl) rfl
theorem q511 : (Jvm.Cond.methodLink "StreamQueries$Tokens" (33 : Nat) ({ cls := "java/lang/System", name := "arraycopy", desc := "(Ljava/lang/Object;ILjava/lang/Object;II)V" } : Jvm.MethodName)) ∈ lw_all := lw_g (lw_at lw_m2 110 rfl) rfl
theorem q512 : (Jvm.Cond.methodLink "StreamQueries$Tokens" (43 : Nat) ({ cls := "StreamQueries$Tokens", name := "one", desc := "(II)I" } : Jvm.MethodName)) ∈ lw_all := lw_g (lw_at lw_m2 111 rfl) rfl
theorem q513 : (Jvm.Cond.privateMethod ({ cls := "StreamQueries$Tokens", name := "one", desc := "(II)I" } : Jvm.MethodName)) ∈ lw_tbl := lw_at lw_m2 112 rfl
theorem q514 : (Jvm.Cond.instanceMethod ({ cls := "StreamQueries$Tokens", name := "one", desc := "(II)I" } : Jvm.MethodName)) ∈ lw_all := lw_g (lw_at lw_m2 113 rfl) rfl
theorem q515 : (Jvm.Cond.code ({ cls := "StreamQueries$Tokens", name := "one", desc := "(II)I" } : Jvm.MethodName) prog_10_method_7_code (9 : Nat) (Option.some Jvm.ClassFile.FieldType.int)) ∈ lw_all := lw_g (lw_at lw_m2 114 rfl) rfl
theorem q516 : (Jvm.Cond.methodLink "StreamQueries$Tokens" (59 : Nat) ({ cls := "StreamQueries$Tokens", name := "peek", desc := "(I)I" } : Jvm.MethodName)) ∈ lw_all := lw_g (lw_at lw_m2 115 rfl) rfl
theorem q517 : (Jvm.Cond.privateMethod ({ cls := "StreamQueries$Tokens", name := "peek", desc := "(I)I" } : Jvm.MethodName)) ∈ lw_tbl := lw_at lw_m2 116 rfl
theorem q518 : (Jvm.Cond.instanceMethod ({ cls := "StreamQueries$Tokens", name := "peek", desc := "(I)I" } : Jvm.MethodName)) ∈ lw_all := lw_g (lw_at lw_m2 117 rfl) rfl
theorem q519 : (Jvm.Cond.code ({ cls := "StreamQueries$Tokens", name := "peek", desc := "(I)I" } : Jvm.MethodName) prog_10_method_6_code (2 : Nat) (Option.some Jvm.ClassFile.FieldType.int)) ∈ lw_all := lw_g (lw_at lw_m2 118 rfl) rfl
theorem q520 : (Jvm.Cond.methodLink "StreamQueries$Tokens" (63 : Nat) ({ cls := "StreamQueries$Tokens", name := "isLetter", desc := "(I)Z" } : Jvm.MethodName)) ∈ lw_all := lw_g (lw_at lw_m2 119 rfl) rfl
theorem q521 : (Jvm.Cond.static ({ cls := "StreamQueries$Tokens", name := "isLetter", desc := "(I)Z" } : Jvm.MethodName)) ∈ lw_all := lw_g (lw_at lw_m2 120 rfl) rfl
theorem q522 : (Jvm.Cond.code ({ cls := "StreamQueries$Tokens", name := "isLetter", desc := "(I)Z" } : Jvm.MethodName) prog_10_method_4_code (1 : Nat) (Option.some Jvm.ClassFile.FieldType.boolean)) ∈ lw_all := lw_g (lw_at lw_m2 121 rfl) rfl
theorem q523 : (Jvm.Cond.methodLink "StreamQueries$Tokens" (67 : Nat) ({ cls := "StreamQueries$Tokens", name := "isDigit", desc := "(I)Z" } : Jvm.MethodName)) ∈ lw_all := lw_g (lw_at lw_m2 122 rfl) rfl
theorem q524 : (Jvm.Cond.static ({ cls := "StreamQueries$Tokens", name := "isDigit", desc := "(I)Z" } : Jvm.MethodName)) ∈ lw_all := lw_g (lw_at lw_m2 123 rfl) rfl
theorem q525 : (Jvm.Cond.code ({ cls := "StreamQueries$Tokens", name := "isDigit", desc := "(I)Z" } : Jvm.MethodName) prog_10_method_5_code (1 : Nat) (Option.some Jvm.ClassFile.FieldType.boolean)) ∈ lw_all := lw_g (lw_at lw_m2 124 rfl) rfl
theorem q526 : (Jvm.Cond.constantLong "StreamQueries$Tokens" (70 : Nat) (922337203685477580 : Int64)) ∈ lw_all := lw_g (lw_at lw_m2 125 rfl) rfl
theorem q527 : (Jvm.Cond.constantLong "StreamQueries$Tokens" (72 : Nat) (10 : Int64)) ∈ lw_all := lw_g (lw_at lw_m2 126 rfl) rfl
theorem q528 : (Jvm.Cond.stringRef "StreamQueries$Tokens" (74 : Nat) "(),.+-*/%=<>") ∈ lw_tbl := lw_at lw_m2 127 rfl
theorem q529 : (Jvm.Cond.methodLink "StreamQueries$Tokens" (76 : Nat) ({ cls := "java/lang/String", name := "indexOf", desc := "(I)I" } : Jvm.MethodName)) ∈ lw_all := lw_g (lw_at lw_m2 128 rfl) rfl
theorem q615 : (Jvm.Cond.methodLink "StreamQueries$Tokens" (79 : Nat) ({ cls := "StreamQueries$Tokens", name := "isTaken", desc := "(II)Z" } : Jvm.MethodName)) ∈ lw_all := lw_g (lw_at lw_m2 214 rfl) rfl
theorem q616 : (Jvm.Cond.privateMethod ({ cls := "StreamQueries$Tokens", name := "isTaken", desc := "(II)Z" } : Jvm.MethodName)) ∈ lw_tbl := lw_at lw_m2 215 rfl
theorem q617 : (Jvm.Cond.instanceMethod ({ cls := "StreamQueries$Tokens", name := "isTaken", desc := "(II)Z" } : Jvm.MethodName)) ∈ lw_all := lw_g (lw_at lw_m2 216 rfl) rfl
theorem q618 : (Jvm.Cond.code ({ cls := "StreamQueries$Tokens", name := "isTaken", desc := "(II)Z" } : Jvm.MethodName) prog_10_method_3_code (6 : Nat) (Option.some Jvm.ClassFile.FieldType.boolean)) ∈ lw_all := lw_g (lw_at lw_m2 217 rfl) rfl
theorem q619 : (Jvm.Cond.stringRef "StreamQueries$Tokens" (47 : Nat) " select distinct from join left on where group by having union all except intersect order desc limit as keep case when then else end is not null in and or true false count sum min max span unbounded time ") ∈ lw_tbl := lw_at lw_m2 218 rfl
theorem q620 : (Jvm.Cond.methodLink "StreamQueries$Tokens" (49 : Nat) ({ cls := "java/lang/String", name := "length", desc := "()I" } : Jvm.MethodName)) ∈ lw_all := lw_g (lw_at lw_m2 219 rfl) rfl
theorem q621 : (Jvm.Cond.methodLink "StreamQueries$Tokens" (55 : Nat) ({ cls := "java/lang/String", name := "charAt", desc := "(I)C" } : Jvm.MethodName)) ∈ lw_all := lw_g (lw_at lw_m2 220 rfl) rfl
theorem q659 : (Jvm.Cond.instanceMethod ({ cls := "StreamQueries$Tokens", name := "is", desc := "(ILjava/lang/String;)Z" } : Jvm.MethodName)) ∈ lw_all := lw_g (lw_at lw_m3 18 rfl) rfl
theorem q660 : (Jvm.Cond.selects "StreamQueries$Tokens" ({ cls := "StreamQueries$Tokens", name := "is", desc := "(ILjava/lang/String;)Z" } : Jvm.MethodName) ({ cls := "StreamQueries$Tokens", name := "is", desc := "(ILjava/lang/String;)Z" } : Jvm.MethodName)) ∈ lw_all := lw_g (lw_at lw_m3 19 rfl) rfl
theorem q661 : (Jvm.Cond.code ({ cls := "StreamQueries$Tokens", name := "is", desc := "(ILjava/lang/String;)Z" } : Jvm.MethodName) prog_10_method_11_code (4 : Nat) (Option.some Jvm.ClassFile.FieldType.boolean)) ∈ lw_all := lw_g (lw_at lw_m3 20 rfl) rfl
theorem q868 : (Jvm.Cond.instanceMethod ({ cls := "StreamQueries$Tokens", name := "place", desc := "(I)I" } : Jvm.MethodName)) ∈ lw_all := lw_g (lw_at lw_m3 227 rfl) rfl
theorem q869 : (Jvm.Cond.selects "StreamQueries$Tokens" ({ cls := "StreamQueries$Tokens", name := "place", desc := "(I)I" } : Jvm.MethodName) ({ cls := "StreamQueries$Tokens", name := "place", desc := "(I)I" } : Jvm.MethodName)) ∈ lw_all := lw_g (lw_at lw_m3 228 rfl) rfl
theorem q870 : (Jvm.Cond.code ({ cls := "StreamQueries$Tokens", name := "place", desc := "(I)I" } : Jvm.MethodName) prog_10_method_13_code (2 : Nat) (Option.some Jvm.ClassFile.FieldType.int)) ∈ lw_all := lw_g (lw_at lw_m3 229 rfl) rfl
theorem q889 : (Jvm.Cond.instanceMethod ({ cls := "StreamQueries$Tokens", name := "isNumber", desc := "(I)Z" } : Jvm.MethodName)) ∈ lw_all := lw_g (lw_at lw_m4 8 rfl) rfl
theorem q890 : (Jvm.Cond.selects "StreamQueries$Tokens" ({ cls := "StreamQueries$Tokens", name := "isNumber", desc := "(I)Z" } : Jvm.MethodName) ({ cls := "StreamQueries$Tokens", name := "isNumber", desc := "(I)Z" } : Jvm.MethodName)) ∈ lw_all := lw_g (lw_at lw_m4 9 rfl) rfl
theorem q891 : (Jvm.Cond.code ({ cls := "StreamQueries$Tokens", name := "isNumber", desc := "(I)Z" } : Jvm.MethodName) prog_10_method_9_code (2 : Nat) (Option.some Jvm.ClassFile.FieldType.boolean)) ∈ lw_all := lw_g (lw_at lw_m4 10 rfl) rfl
theorem q893 : (Jvm.Cond.instanceMethod ({ cls := "StreamQueries$Tokens", name := "isName", desc := "(I)Z" } : Jvm.MethodName)) ∈ lw_all := lw_g (lw_at lw_m4 12 rfl) rfl
theorem q894 : (Jvm.Cond.selects "StreamQueries$Tokens" ({ cls := "StreamQueries$Tokens", name := "isName", desc := "(I)Z" } : Jvm.MethodName) ({ cls := "StreamQueries$Tokens", name := "isName", desc := "(I)Z" } : Jvm.MethodName)) ∈ lw_all := lw_g (lw_at lw_m4 13 rfl) rfl
theorem q895 : (Jvm.Cond.code ({ cls := "StreamQueries$Tokens", name := "isName", desc := "(I)Z" } : Jvm.MethodName) prog_10_method_10_code (2 : Nat) (Option.some Jvm.ClassFile.FieldType.boolean)) ∈ lw_all := lw_g (lw_at lw_m4 14 rfl) rfl
theorem q950 : (Jvm.Cond.instanceMethod ({ cls := "StreamQueries$Tokens", name := "number", desc := "(I)J" } : Jvm.MethodName)) ∈ lw_all := lw_g (lw_at lw_m4 69 rfl) rfl
theorem q951 : (Jvm.Cond.selects "StreamQueries$Tokens" ({ cls := "StreamQueries$Tokens", name := "number", desc := "(I)J" } : Jvm.MethodName) ({ cls := "StreamQueries$Tokens", name := "number", desc := "(I)J" } : Jvm.MethodName)) ∈ lw_all := lw_g (lw_at lw_m4 70 rfl) rfl
theorem q952 : (Jvm.Cond.code ({ cls := "StreamQueries$Tokens", name := "number", desc := "(I)J" } : Jvm.MethodName) prog_10_method_14_code (2 : Nat) (Option.some Jvm.ClassFile.FieldType.long)) ∈ lw_all := lw_g (lw_at lw_m4 71 rfl) rfl
theorem q1021 : (Jvm.Cond.instanceMethod ({ cls := "StreamQueries$Tokens", name := "length", desc := "(I)I" } : Jvm.MethodName)) ∈ lw_all := lw_g (lw_at lw_m4 140 rfl) rfl
theorem q1022 : (Jvm.Cond.selects "StreamQueries$Tokens" ({ cls := "StreamQueries$Tokens", name := "length", desc := "(I)I" } : Jvm.MethodName) ({ cls := "StreamQueries$Tokens", name := "length", desc := "(I)I" } : Jvm.MethodName)) ∈ lw_all := lw_g (lw_at lw_m4 141 rfl) rfl
theorem q1023 : (Jvm.Cond.code ({ cls := "StreamQueries$Tokens", name := "length", desc := "(I)I" } : Jvm.MethodName) prog_10_method_15_code (2 : Nat) (Option.some Jvm.ClassFile.FieldType.int)) ∈ lw_all := lw_g (lw_at lw_m4 142 rfl) rfl
theorem q1025 : (Jvm.Cond.instanceMethod ({ cls := "StreamQueries$Tokens", name := "letter", desc := "(II)I" } : Jvm.MethodName)) ∈ lw_all := lw_g (lw_at lw_m4 144 rfl) rfl
theorem q1026 : (Jvm.Cond.selects "StreamQueries$Tokens" ({ cls := "StreamQueries$Tokens", name := "letter", desc := "(II)I" } : Jvm.MethodName) ({ cls := "StreamQueries$Tokens", name := "letter", desc := "(II)I" } : Jvm.MethodName)) ∈ lw_all := lw_g (lw_at lw_m4 145 rfl) rfl
theorem q1027 : (Jvm.Cond.code ({ cls := "StreamQueries$Tokens", name := "letter", desc := "(II)I" } : Jvm.MethodName) prog_10_method_16_code (3 : Nat) (Option.some Jvm.ClassFile.FieldType.int)) ∈ lw_all := lw_g (lw_at lw_m4 146 rfl) rfl
theorem q1051 : (Jvm.Cond.instanceMethod ({ cls := "StreamQueries$Tokens", name := "isEnd", desc := "(I)Z" } : Jvm.MethodName)) ∈ lw_all := lw_g (lw_at lw_m4 170 rfl) rfl
theorem q1052 : (Jvm.Cond.selects "StreamQueries$Tokens" ({ cls := "StreamQueries$Tokens", name := "isEnd", desc := "(I)Z" } : Jvm.MethodName) ({ cls := "StreamQueries$Tokens", name := "isEnd", desc := "(I)Z" } : Jvm.MethodName)) ∈ lw_all := lw_g (lw_at lw_m4 171 rfl) rfl
theorem q1053 : (Jvm.Cond.code ({ cls := "StreamQueries$Tokens", name := "isEnd", desc := "(I)Z" } : Jvm.MethodName) prog_10_method_8_code (2 : Nat) (Option.some Jvm.ClassFile.FieldType.boolean)) ∈ lw_all := lw_g (lw_at lw_m4 172 rfl) rfl
theorem q1176 : (Jvm.Cond.instanceMethod ({ cls := "StreamQueries$Tokens", name := "alike", desc := "(II)Z" } : Jvm.MethodName)) ∈ lw_all := lw_g (lw_at lw_m5 55 rfl) rfl
theorem q1177 : (Jvm.Cond.selects "StreamQueries$Tokens" ({ cls := "StreamQueries$Tokens", name := "alike", desc := "(II)Z" } : Jvm.MethodName) ({ cls := "StreamQueries$Tokens", name := "alike", desc := "(II)Z" } : Jvm.MethodName)) ∈ lw_all := lw_g (lw_at lw_m5 56 rfl) rfl
theorem q1178 : (Jvm.Cond.code ({ cls := "StreamQueries$Tokens", name := "alike", desc := "(II)Z" } : Jvm.MethodName) prog_10_method_12_code (5 : Nat) (Option.some Jvm.ClassFile.FieldType.boolean)) ∈ lw_all := lw_g (lw_at lw_m5 57 rfl) rfl
theorem in_X4 : ∀ w ∈ wsX40, w ∈ lw_all := lw_in wsX40 [250, 252, 254, 256, 258, 260, 262] (by decide +kernel) (by decide +kernel)
def RX5 : String := "StreamQueries$Expressions"
def TX5 : u_T := fun k => match k with
  | 0 => ("StreamQueries$Expressions", "size", "I", false)
  | 1 => ("StreamQueries$Expressions", "acts", "[I", true)
  | 2 => ("StreamQueries$Expressions", "firsts", "[I", true)
  | 3 => ("StreamQueries$Expressions", "seconds", "[I", true)
  | 4 => ("StreamQueries$Expressions", "thirds", "[I", true)
  | 5 => ("StreamQueries$Expressions", "nexts", "[I", true)
  | 6 => ("StreamQueries$Expressions", "numbers", "[J", true)
  | 7 => ("StreamQueries$Expressions", "tokens", "[I", true)
  | 8 => ("StreamQueries$Expressions", "types", "[I", true)
  | 9 => ("StreamQueries$Expressions", "isFree", "[Z", true)
  | 10 => ("StreamQueries$Expressions", "slots", "[I", true)
  | 11 => ("StreamQueries$Expressions", "begins", "[I", true)
  | _ => ("StreamQueries$Expressions", "isNull", "Z", false)
def tyX5 : Nat → FieldType := fun k => match k with
  | 0 => .int
  | 1 => .array .int
  | 2 => .array .int
  | 3 => .array .int
  | 4 => .array .int
  | 5 => .array .int
  | 6 => .array .long
  | 7 => .array .int
  | 8 => .array .int
  | 9 => .array .boolean
  | 10 => .array .int
  | 11 => .array .int
  | _ => .boolean
abbrev wsX50 : List Cond := u_ws RX5 TX5 13
theorem nmX5 : ∀ a, a < 13 → ∀ b, b < 13 → a ≠ b → (TX5 a).2.1 ≠ (TX5 b).2.1 := by decide +kernel
theorem tyX5_ok : ∀ k, k < 13 → parseFieldDescriptor (TX5 k).2.2.1 = some (tyX5 k) := by decide +kernel
abbrev cX5_init : ByteArray := prog_3_method_1_code
def yX5_init : MethodName := ⟨RX5, "<init>", "()V"⟩
abbrev cX5_clear : ByteArray := prog_3_method_2_code
def yX5_clear : MethodName := ⟨RX5, "clear", "()V"⟩
abbrev cX5_isFull : ByteArray := prog_3_method_4_code
def yX5_isFull : MethodName := ⟨RX5, "isFull", "()Z"⟩
abbrev cX5_add : ByteArray := prog_3_method_5_code
def yX5_add : MethodName := ⟨RX5, "add", "(IIIII)I"⟩
abbrev cX5_of : ByteArray := prog_3_method_7_code
def yX5_of : MethodName := ⟨RX5, "of", "(ILStreamQueries$Row;)J"⟩
abbrev cX5_both : ByteArray := prog_3_method_8_code
def yX5_both : MethodName := ⟨RX5, "both", "(ILStreamQueries$Row;J)J"⟩
abbrev cX5_in : ByteArray := prog_3_method_9_code
def yX5_in : MethodName := ⟨RX5, "in", "(ILStreamQueries$Row;)J"⟩
abbrev cX5_twoSided : ByteArray := prog_3_method_10_code
def yX5_twoSided : MethodName := ⟨RX5, "twoSided", "(ILStreamQueries$Row;)J"⟩
abbrev cX5_isNull : ByteArray := prog_3_method_6_code
def yX5_isNull : MethodName := ⟨RX5, "isNull", "()Z"⟩
abbrev cX5_size : ByteArray := prog_3_method_3_code
def yX5_size : MethodName := ⟨RX5, "size", "()I"⟩
theorem q167 : (Jvm.Cond.initialized "StreamQueries$Expressions") ∈ lw_all := lw_g (lw_at lw_m1 6 rfl) rfl
theorem q266 : (Jvm.Cond.instantiable "StreamQueries$Expressions" (13 : Nat)) ∈ lw_all := lw_g (lw_at lw_m1 105 rfl) rfl
theorem q268 : (Jvm.Cond.instanceMethod ({ cls := "StreamQueries$Expressions", name := "<init>", desc := "()V" } : Jvm.MethodName)) ∈ lw_all := lw_g (lw_at lw_m1 107 rfl) rfl
theorem q269 : (Jvm.Cond.code ({ cls := "StreamQueries$Expressions", name := "<init>", desc := "()V" } : Jvm.MethodName) prog_3_method_1_code (1 : Nat) (Option.none : Option Jvm.ClassFile.FieldType)) ∈ lw_all := lw_g (lw_at lw_m1 108 rfl) rfl
theorem q270 : (Jvm.Cond.methodLink "StreamQueries$Expressions" (3 : Nat) ({ cls := "java/lang/Object", name := "<init>", desc := "()V" } : Jvm.MethodName)) ∈ lw_all := lw_g (lw_at lw_m1 109 rfl) rfl
theorem q271 : (Jvm.Cond.fieldLink "StreamQueries$Expressions" (47 : Nat) "StreamQueries$Expressions" "size" "I") ∈ lw_all := lw_g (lw_at lw_m1 110 rfl) rfl
theorem q272 : (Jvm.Cond.fieldLink "StreamQueries$Expressions" (11 : Nat) "StreamQueries$Expressions" "acts" "[I") ∈ lw_all := lw_g (lw_at lw_m1 111 rfl) rfl
theorem q275 : (Jvm.Cond.fieldLink "StreamQueries$Expressions" (15 : Nat) "StreamQueries$Expressions" "firsts" "[I") ∈ lw_all := lw_g (lw_at lw_m1 114 rfl) rfl
theorem q278 : (Jvm.Cond.fieldLink "StreamQueries$Expressions" (18 : Nat) "StreamQueries$Expressions" "seconds" "[I") ∈ lw_all := lw_g (lw_at lw_m1 117 rfl) rfl
theorem q280 : (Jvm.Cond.fieldLink "StreamQueries$Expressions" (21 : Nat) "StreamQueries$Expressions" "thirds" "[I") ∈ lw_all := lw_g (lw_at lw_m1 119 rfl) rfl
theorem q282 : (Jvm.Cond.fieldLink "StreamQueries$Expressions" (24 : Nat) "StreamQueries$Expressions" "nexts" "[I") ∈ lw_all := lw_g (lw_at lw_m1 121 rfl) rfl
theorem q284 : (Jvm.Cond.fieldLink "StreamQueries$Expressions" (27 : Nat) "StreamQueries$Expressions" "numbers" "[J") ∈ lw_all := lw_g (lw_at lw_m1 123 rfl) rfl
theorem q286 : (Jvm.Cond.fieldLink "StreamQueries$Expressions" (31 : Nat) "StreamQueries$Expressions" "tokens" "[I") ∈ lw_all := lw_g (lw_at lw_m1 125 rfl) rfl
theorem q288 : (Jvm.Cond.fieldLink "StreamQueries$Expressions" (34 : Nat) "StreamQueries$Expressions" "types" "[I") ∈ lw_all := lw_g (lw_at lw_m1 127 rfl) rfl
theorem q290 : (Jvm.Cond.fieldLink "StreamQueries$Expressions" (37 : Nat) "StreamQueries$Expressions" "isFree" "[Z") ∈ lw_all := lw_g (lw_at lw_m1 129 rfl) rfl
theorem q292 : (Jvm.Cond.fieldLink "StreamQueries$Expressions" (41 : Nat) "StreamQueries$Expressions" "slots" "[I") ∈ lw_all := lw_g (lw_at lw_m1 131 rfl) rfl
theorem q294 : (Jvm.Cond.fieldLink "StreamQueries$Expressions" (44 : Nat) "StreamQueries$Expressions" "begins" "[I") ∈ lw_all := lw_g (lw_at lw_m1 133 rfl) rfl
theorem q296 : (Jvm.Cond.fieldLink "StreamQueries$Expressions" (51 : Nat) "StreamQueries$Expressions" "isNull" "Z") ∈ lw_all := lw_g (lw_at lw_m1 135 rfl) rfl
theorem q297 : (Jvm.Cond.lays "StreamQueries$Expressions" "StreamQueries$Expressions" "size" "I") ∈ lw_all := lw_g (lw_at lw_m1 136 rfl) rfl
theorem q298 : (Jvm.Cond.soleField "StreamQueries$Expressions" "size") ∈ lw_all := lw_g (lw_at lw_m1 137 rfl) rfl
theorem q299 : (Jvm.Cond.laysFinal "StreamQueries$Expressions" "StreamQueries$Expressions" "acts" "[I") ∈ lw_all := lw_g (lw_at lw_m1 138 rfl) rfl
theorem q300 : (Jvm.Cond.soleField "StreamQueries$Expressions" "acts") ∈ lw_all := lw_g (lw_at lw_m1 139 rfl) rfl
theorem q301 : (Jvm.Cond.laysFinal "StreamQueries$Expressions" "StreamQueries$Expressions" "firsts" "[I") ∈ lw_all := lw_g (lw_at lw_m1 140 rfl) rfl
theorem q302 : (Jvm.Cond.soleField "StreamQueries$Expressions" "firsts") ∈ lw_all := lw_g (lw_at lw_m1 141 rfl) rfl
theorem q303 : (Jvm.Cond.laysFinal "StreamQueries$Expressions" "StreamQueries$Expressions" "seconds" "[I") ∈ lw_all := lw_g (lw_at lw_m1 142 rfl) rfl
theorem q304 : (Jvm.Cond.soleField "StreamQueries$Expressions" "seconds") ∈ lw_all := lw_g (lw_at lw_m1 143 rfl) rfl
theorem q305 : (Jvm.Cond.laysFinal "StreamQueries$Expressions" "StreamQueries$Expressions" "thirds" "[I") ∈ lw_all := lw_g (lw_at lw_m1 144 rfl) rfl
theorem q306 : (Jvm.Cond.soleField "StreamQueries$Expressions" "thirds") ∈ lw_all := lw_g (lw_at lw_m1 145 rfl) rfl
theorem q307 : (Jvm.Cond.laysFinal "StreamQueries$Expressions" "StreamQueries$Expressions" "nexts" "[I") ∈ lw_all := lw_g (lw_at lw_m1 146 rfl) rfl
theorem q308 : (Jvm.Cond.soleField "StreamQueries$Expressions" "nexts") ∈ lw_all := lw_g (lw_at lw_m1 147 rfl) rfl
theorem q309 : (Jvm.Cond.laysFinal "StreamQueries$Expressions" "StreamQueries$Expressions" "numbers" "[J") ∈ lw_all := lw_g (lw_at lw_m1 148 rfl) rfl
theorem q310 : (Jvm.Cond.soleField "StreamQueries$Expressions" "numbers") ∈ lw_all := lw_g (lw_at lw_m1 149 rfl) rfl
theorem q311 : (Jvm.Cond.laysFinal "StreamQueries$Expressions" "StreamQueries$Expressions" "tokens" "[I") ∈ lw_all := lw_g (lw_at lw_m1 150 rfl) rfl
theorem q312 : (Jvm.Cond.soleField "StreamQueries$Expressions" "tokens") ∈ lw_all := lw_g (lw_at lw_m1 151 rfl) rfl
theorem q313 : (Jvm.Cond.laysFinal "StreamQueries$Expressions" "StreamQueries$Expressions" "types" "[I") ∈ lw_all := lw_g (lw_at lw_m1 152 rfl) rfl
theorem q314 : (Jvm.Cond.soleField "StreamQueries$Expressions" "types") ∈ lw_all := lw_g (lw_at lw_m1 153 rfl) rfl
theorem q315 : (Jvm.Cond.laysFinal "StreamQueries$Expressions" "StreamQueries$Expressions" "isFree" "[Z") ∈ lw_all := lw_g (lw_at lw_m1 154 rfl) rfl
theorem q316 : (Jvm.Cond.soleField "StreamQueries$Expressions" "isFree") ∈ lw_all := lw_g (lw_at lw_m1 155 rfl) rfl
theorem q317 : (Jvm.Cond.laysFinal "StreamQueries$Expressions" "StreamQueries$Expressions" "slots" "[I") ∈ lw_all := lw_g (lw_at lw_m1 156 rfl) rfl
theorem q318 : (Jvm.Cond.soleField "StreamQueries$Expressions" "slots") ∈ lw_all := lw_g (lw_at lw_m1 157 rfl) rfl
theorem q319 : (Jvm.Cond.laysFinal "StreamQueries$Expressions" "StreamQueries$Expressions" "begins" "[I") ∈ lw_all := lw_g (lw_at lw_m1 158 rfl) rfl
theorem q320 : (Jvm.Cond.soleField "StreamQueries$Expressions" "begins") ∈ lw_all := lw_g (lw_at lw_m1 159 rfl) rfl
theorem q321 : (Jvm.Cond.lays "StreamQueries$Expressions" "StreamQueries$Expressions" "isNull" "Z") ∈ lw_all := lw_g (lw_at lw_m1 160 rfl) rfl
theorem q322 : (Jvm.Cond.soleField "StreamQueries$Expressions" "isNull") ∈ lw_all := lw_g (lw_at lw_m1 161 rfl) rfl
theorem q323 : (Jvm.Cond.superclass "StreamQueries$Expressions" "java/lang/Object") ∈ lw_all := lw_g (lw_at lw_m1 162 rfl) rfl
theorem q642 : (Jvm.Cond.instanceMethod ({ cls := "StreamQueries$Expressions", name := "clear", desc := "()V" } : Jvm.MethodName)) ∈ lw_all := lw_g (lw_at lw_m3 1 rfl) rfl
theorem q643 : (Jvm.Cond.selects "StreamQueries$Expressions" ({ cls := "StreamQueries$Expressions", name := "clear", desc := "()V" } : Jvm.MethodName) ({ cls := "StreamQueries$Expressions", name := "clear", desc := "()V" } : Jvm.MethodName)) ∈ lw_all := lw_g (lw_at lw_m3 2 rfl) rfl
theorem q644 : (Jvm.Cond.code ({ cls := "StreamQueries$Expressions", name := "clear", desc := "()V" } : Jvm.MethodName) prog_3_method_2_code (1 : Nat) (Option.none : Option Jvm.ClassFile.FieldType)) ∈ lw_all := lw_g (lw_at lw_m3 3 rfl) rfl
theorem q942 : (Jvm.Cond.instanceMethod ({ cls := "StreamQueries$Expressions", name := "isFull", desc := "()Z" } : Jvm.MethodName)) ∈ lw_all := lw_g (lw_at lw_m4 61 rfl) rfl
theorem q943 : (Jvm.Cond.selects "StreamQueries$Expressions" ({ cls := "StreamQueries$Expressions", name := "isFull", desc := "()Z" } : Jvm.MethodName) ({ cls := "StreamQueries$Expressions", name := "isFull", desc := "()Z" } : Jvm.MethodName)) ∈ lw_all := lw_g (lw_at lw_m4 62 rfl) rfl
theorem q944 : (Jvm.Cond.code ({ cls := "StreamQueries$Expressions", name := "isFull", desc := "()Z" } : Jvm.MethodName) prog_3_method_4_code (1 : Nat) (Option.some Jvm.ClassFile.FieldType.boolean)) ∈ lw_all := lw_g (lw_at lw_m4 63 rfl) rfl
theorem q946 : (Jvm.Cond.instanceMethod ({ cls := "StreamQueries$Expressions", name := "add", desc := "(IIIII)I" } : Jvm.MethodName)) ∈ lw_all := lw_g (lw_at lw_m4 65 rfl) rfl
theorem q947 : (Jvm.Cond.selects "StreamQueries$Expressions" ({ cls := "StreamQueries$Expressions", name := "add", desc := "(IIIII)I" } : Jvm.MethodName) ({ cls := "StreamQueries$Expressions", name := "add", desc := "(IIIII)I" } : Jvm.MethodName)) ∈ lw_all := lw_g (lw_at lw_m4 66 rfl) rfl
theorem q948 : (Jvm.Cond.code ({ cls := "StreamQueries$Expressions", name := "add", desc := "(IIIII)I" } : Jvm.MethodName) prog_3_method_5_code (7 : Nat) (Option.some Jvm.ClassFile.FieldType.int)) ∈ lw_all := lw_g (lw_at lw_m4 67 rfl) rfl
theorem q1309 : (Jvm.Cond.instanceMethod ({ cls := "StreamQueries$Expressions", name := "of", desc := "(ILStreamQueries$Row;)J" } : Jvm.MethodName)) ∈ lw_all := lw_g (lw_at lw_m5 188 rfl) rfl
theorem q1310 : (Jvm.Cond.selects "StreamQueries$Expressions" ({ cls := "StreamQueries$Expressions", name := "of", desc := "(ILStreamQueries$Row;)J" } : Jvm.MethodName) ({ cls := "StreamQueries$Expressions", name := "of", desc := "(ILStreamQueries$Row;)J" } : Jvm.MethodName)) ∈ lw_all := lw_g (lw_at lw_m5 189 rfl) rfl
theorem q1311 : (Jvm.Cond.code ({ cls := "StreamQueries$Expressions", name := "of", desc := "(ILStreamQueries$Row;)J" } : Jvm.MethodName) prog_3_method_7_code (11 : Nat) (Option.some Jvm.ClassFile.FieldType.long)) ∈ lw_all := lw_g (lw_at lw_m5 190 rfl) rfl
theorem q1312 : (Jvm.Cond.methodLink "StreamQueries$Expressions" (55 : Nat) ({ cls := "StreamQueries$Row", name := "isNull", desc := "(I)Z" } : Jvm.MethodName)) ∈ lw_all := lw_g (lw_at lw_m5 191 rfl) rfl
theorem q1313 : (Jvm.Cond.methodLink "StreamQueries$Expressions" (60 : Nat) ({ cls := "StreamQueries$Row", name := "value", desc := "(I)J" } : Jvm.MethodName)) ∈ lw_all := lw_g (lw_at lw_m5 192 rfl) rfl
theorem q1317 : (Jvm.Cond.methodLink "StreamQueries$Expressions" (64 : Nat) ({ cls := "StreamQueries$Expressions", name := "both", desc := "(ILStreamQueries$Row;J)J" } : Jvm.MethodName)) ∈ lw_all := lw_g (lw_at lw_m5 196 rfl) rfl
theorem q1318 : (Jvm.Cond.privateMethod ({ cls := "StreamQueries$Expressions", name := "both", desc := "(ILStreamQueries$Row;J)J" } : Jvm.MethodName)) ∈ lw_tbl := lw_at lw_m5 197 rfl
theorem q1319 : (Jvm.Cond.instanceMethod ({ cls := "StreamQueries$Expressions", name := "both", desc := "(ILStreamQueries$Row;J)J" } : Jvm.MethodName)) ∈ lw_all := lw_g (lw_at lw_m5 198 rfl) rfl
theorem q1320 : (Jvm.Cond.code ({ cls := "StreamQueries$Expressions", name := "both", desc := "(ILStreamQueries$Row;J)J" } : Jvm.MethodName) prog_3_method_8_code (12 : Nat) (Option.some Jvm.ClassFile.FieldType.long)) ∈ lw_all := lw_g (lw_at lw_m5 199 rfl) rfl
theorem q1321 : (Jvm.Cond.methodLink "StreamQueries$Expressions" (68 : Nat) ({ cls := "StreamQueries$Expressions", name := "of", desc := "(ILStreamQueries$Row;)J" } : Jvm.MethodName)) ∈ lw_all := lw_g (lw_at lw_m5 200 rfl) rfl
theorem q1322 : (Jvm.Cond.methodLink "StreamQueries$Expressions" (72 : Nat) ({ cls := "StreamQueries$Expressions", name := "in", desc := "(ILStreamQueries$Row;)J" } : Jvm.MethodName)) ∈ lw_all := lw_g (lw_at lw_m5 201 rfl) rfl
theorem q1323 : (Jvm.Cond.privateMethod ({ cls := "StreamQueries$Expressions", name := "in", desc := "(ILStreamQueries$Row;)J" } : Jvm.MethodName)) ∈ lw_tbl := lw_at lw_m5 202 rfl
theorem q1324 : (Jvm.Cond.instanceMethod ({ cls := "StreamQueries$Expressions", name := "in", desc := "(ILStreamQueries$Row;)J" } : Jvm.MethodName)) ∈ lw_all := lw_g (lw_at lw_m5 203 rfl) rfl
theorem q1325 : (Jvm.Cond.code ({ cls := "StreamQueries$Expressions", name := "in", desc := "(ILStreamQueries$Row;)J" } : Jvm.MethodName) prog_3_method_9_code (11 : Nat) (Option.some Jvm.ClassFile.FieldType.long)) ∈ lw_all := lw_g (lw_at lw_m5 204 rfl) rfl
theorem q1326 : (Jvm.Cond.methodLink "StreamQueries$Expressions" (75 : Nat) ({ cls := "StreamQueries$Expressions", name := "twoSided", desc := "(ILStreamQueries$Row;)J" } : Jvm.MethodName)) ∈ lw_all := lw_g (lw_at lw_m5 205 rfl) rfl
theorem q1327 : (Jvm.Cond.privateMethod ({ cls := "StreamQueries$Expressions", name := "twoSided", desc := "(ILStreamQueries$Row;)J" } : Jvm.MethodName)) ∈ lw_tbl := lw_at lw_m5 206 rfl
theorem q1328 : (Jvm.Cond.instanceMethod ({ cls := "StreamQueries$Expressions", name := "twoSided", desc := "(ILStreamQueries$Row;)J" } : Jvm.MethodName)) ∈ lw_all := lw_g (lw_at lw_m5 207 rfl) rfl
theorem q1329 : (Jvm.Cond.code ({ cls := "StreamQueries$Expressions", name := "twoSided", desc := "(ILStreamQueries$Row;)J" } : Jvm.MethodName) prog_3_method_10_code (8 : Nat) (Option.some Jvm.ClassFile.FieldType.long)) ∈ lw_all := lw_g (lw_at lw_m5 208 rfl) rfl
theorem q1330 : (Jvm.Cond.methodLink "StreamQueries$Expressions" (78 : Nat) ({ cls := "java/lang/Math", name := "floorMod", desc := "(JJ)J" } : Jvm.MethodName)) ∈ lw_all := lw_g (lw_at lw_m5 209 rfl) rfl
theorem q1334 : (Jvm.Cond.instanceMethod ({ cls := "StreamQueries$Expressions", name := "isNull", desc := "()Z" } : Jvm.MethodName)) ∈ lw_all := lw_g (lw_at lw_m5 213 rfl) rfl
theorem q1335 : (Jvm.Cond.selects "StreamQueries$Expressions" ({ cls := "StreamQueries$Expressions", name := "isNull", desc := "()Z" } : Jvm.MethodName) ({ cls := "StreamQueries$Expressions", name := "isNull", desc := "()Z" } : Jvm.MethodName)) ∈ lw_all := lw_g (lw_at lw_m5 214 rfl) rfl
theorem q1336 : (Jvm.Cond.code ({ cls := "StreamQueries$Expressions", name := "isNull", desc := "()Z" } : Jvm.MethodName) prog_3_method_6_code (1 : Nat) (Option.some Jvm.ClassFile.FieldType.boolean)) ∈ lw_all := lw_g (lw_at lw_m5 215 rfl) rfl
theorem q1620 : (Jvm.Cond.instanceMethod ({ cls := "StreamQueries$Expressions", name := "size", desc := "()I" } : Jvm.MethodName)) ∈ lw_all := lw_g (lw_at lw_m7 19 rfl) rfl
theorem q1621 : (Jvm.Cond.selects "StreamQueries$Expressions" ({ cls := "StreamQueries$Expressions", name := "size", desc := "()I" } : Jvm.MethodName) ({ cls := "StreamQueries$Expressions", name := "size", desc := "()I" } : Jvm.MethodName)) ∈ lw_all := lw_g (lw_at lw_m7 20 rfl) rfl
theorem q1622 : (Jvm.Cond.code ({ cls := "StreamQueries$Expressions", name := "size", desc := "()I" } : Jvm.MethodName) prog_3_method_3_code (1 : Nat) (Option.some Jvm.ClassFile.FieldType.int)) ∈ lw_all := lw_g (lw_at lw_m7 21 rfl) rfl
theorem in_X5 : ∀ w ∈ wsX50, w ∈ lw_all := lw_in wsX50 [297, 299, 301, 303, 305, 307, 309, 311, 313, 315, 317, 319, 321] (by decide +kernel) (by decide +kernel)
def RX6 : String := "StreamQueries$Bag"
def TX6 : u_T := fun k => match k with
  | 0 => ("StreamQueries$Bag", "pool", "LStreamQueries$Pool;", true)
  | 1 => ("StreamQueries$Bag", "rows", "[LStreamQueries$Row;", false)
  | 2 => ("StreamQueries$Bag", "times", "[I", false)
  | _ => ("StreamQueries$Bag", "size", "I", false)
def tyX6 : Nat → FieldType := fun k => match k with
  | 0 => .object "StreamQueries$Pool"
  | 1 => .array (.object "StreamQueries$Row")
  | 2 => .array .int
  | _ => .int
abbrev wsX60 : List Cond := u_ws RX6 TX6 4
theorem nmX6 : ∀ a, a < 4 → ∀ b, b < 4 → a ≠ b → (TX6 a).2.1 ≠ (TX6 b).2.1 := by decide +kernel
theorem tyX6_ok : ∀ k, k < 4 → parseFieldDescriptor (TX6 k).2.2.1 = some (tyX6 k) := by decide +kernel
abbrev cX6_init : ByteArray := prog_2_method_1_code
def yX6_init : MethodName := ⟨RX6, "<init>", "(LStreamQueries$Pool;)V"⟩
abbrev cX6_clear : ByteArray := prog_2_method_5_code
def yX6_clear : MethodName := ⟨RX6, "clear", "()V"⟩
abbrev cX6_size : ByteArray := prog_2_method_2_code
def yX6_size : MethodName := ⟨RX6, "size", "()I"⟩
abbrev cX6_row : ByteArray := prog_2_method_3_code
def yX6_row : MethodName := ⟨RX6, "row", "(I)LStreamQueries$Row;"⟩
abbrev cX6_times : ByteArray := prog_2_method_4_code
def yX6_times : MethodName := ⟨RX6, "times", "(I)I"⟩
abbrev cX6_add : ByteArray := prog_2_method_8_code
def yX6_add : MethodName := ⟨RX6, "add", "(LStreamQueries$Row;I)V"⟩
abbrev cX6_find : ByteArray := prog_2_method_6_code
def yX6_find : MethodName := ⟨RX6, "find", "(LStreamQueries$Row;)I"⟩
abbrev cX6_remove : ByteArray := prog_2_method_10_code
def yX6_remove : MethodName := ⟨RX6, "remove", "(I)V"⟩
abbrev cX6_grow : ByteArray := prog_2_method_9_code
def yX6_grow : MethodName := ⟨RX6, "grow", "()V"⟩
abbrev cX6_addAll : ByteArray := prog_2_method_11_code
def yX6_addAll : MethodName := ⟨RX6, "addAll", "(LStreamQueries$Bag;)V"⟩
abbrev cX6_timesOf : ByteArray := prog_2_method_7_code
def yX6_timesOf : MethodName := ⟨RX6, "timesOf", "(LStreamQueries$Row;)I"⟩
abbrev cX6_sortBySign : ByteArray := prog_2_method_13_code
def yX6_sortBySign : MethodName := ⟨RX6, "sortBySign", "(LStreamQueries$Bag;)V"⟩
abbrev cX6_append : ByteArray := prog_2_method_14_code
def yX6_append : MethodName := ⟨RX6, "append", "(LStreamQueries$Row;I)V"⟩
abbrev cX6_total : ByteArray := prog_2_method_12_code
def yX6_total : MethodName := ⟨RX6, "total", "()I"⟩
theorem q168 : (Jvm.Cond.initialized "StreamQueries$Bag") ∈ lw_all := lw_g (lw_at lw_m1 7 rfl) rfl
theorem q398 : (Jvm.Cond.instantiable "StreamQueries$Bag" (4 : Nat)) ∈ lw_all := lw_g (lw_at lw_m1 237 rfl) rfl
theorem q400 : (Jvm.Cond.instanceMethod ({ cls := "StreamQueries$Bag", name := "<init>", desc := "(LStreamQueries$Pool;)V" } : Jvm.MethodName)) ∈ lw_all := lw_g (lw_at lw_m1 239 rfl) rfl
theorem q401 : (Jvm.Cond.code ({ cls := "StreamQueries$Bag", name := "<init>", desc := "(LStreamQueries$Pool;)V" } : Jvm.MethodName) prog_2_method_1_code (2 : Nat) (Option.none : Option Jvm.ClassFile.FieldType)) ∈ lw_all := lw_g (lw_at lw_m2 0 rfl) rfl
theorem q402 : (Jvm.Cond.methodLink "StreamQueries$Bag" (1 : Nat) ({ cls := "java/lang/Object", name := "<init>", desc := "()V" } : Jvm.MethodName)) ∈ lw_all := lw_g (lw_at lw_m2 1 rfl) rfl
theorem q403 : (Jvm.Cond.classLink "StreamQueries$Bag" (7 : Nat) "StreamQueries$Row") ∈ lw_all := lw_g (lw_at lw_m2 2 rfl) rfl
theorem q404 : (Jvm.Cond.fieldLink "StreamQueries$Bag" (19 : Nat) "StreamQueries$Bag" "pool" "LStreamQueries$Pool;") ∈ lw_all := lw_g (lw_at lw_m2 3 rfl) rfl
theorem q405 : (Jvm.Cond.fieldLink "StreamQueries$Bag" (9 : Nat) "StreamQueries$Bag" "rows" "[LStreamQueries$Row;") ∈ lw_all := lw_g (lw_at lw_m2 4 rfl) rfl
theorem q406 : (Jvm.Cond.fieldLink "StreamQueries$Bag" (15 : Nat) "StreamQueries$Bag" "times" "[I") ∈ lw_all := lw_g (lw_at lw_m2 5 rfl) rfl
theorem q407 : (Jvm.Cond.fieldLink "StreamQueries$Bag" (23 : Nat) "StreamQueries$Bag" "size" "I") ∈ lw_all := lw_g (lw_at lw_m2 6 rfl) rfl
theorem q408 : (Jvm.Cond.laysFinal "StreamQueries$Bag" "StreamQueries$Bag" "pool" "LStreamQueries$Pool;") ∈ lw_all := lw_g (lw_at lw_m2 7 rfl) rfl
theorem q409 : (Jvm.Cond.soleField "StreamQueries$Bag" "pool") ∈ lw_all := lw_g (lw_at lw_m2 8 rfl) rfl
theorem q410 : (Jvm.Cond.lays "StreamQueries$Bag" "StreamQueries$Bag" "rows" "[LStreamQueries$Row;") ∈ lw_all := lw_g (lw_at lw_m2 9 rfl) rfl
theorem q411 : (Jvm.Cond.soleField "StreamQueries$Bag" "rows") ∈ lw_all := lw_g (lw_at lw_m2 10 rfl) rfl
theorem q412 : (Jvm.Cond.lays "StreamQueries$Bag" "StreamQueries$Bag" "times" "[I") ∈ lw_all := lw_g (lw_at lw_m2 11 rfl) rfl
theorem q413 : (Jvm.Cond.soleField "StreamQueries$Bag" "times") ∈ lw_all := lw_g (lw_at lw_m2 12 rfl) rfl
theorem q414 : (Jvm.Cond.lays "StreamQueries$Bag" "StreamQueries$Bag" "size" "I") ∈ lw_all := lw_g (lw_at lw_m2 13 rfl) rfl
theorem q415 : (Jvm.Cond.soleField "StreamQueries$Bag" "size") ∈ lw_all := lw_g (lw_at lw_m2 14 rfl) rfl
theorem q416 : (Jvm.Cond.superclass "StreamQueries$Bag" "java/lang/Object") ∈ lw_all := lw_g (lw_at lw_m2 15 rfl) rfl
theorem q484 : (Jvm.Cond.instanceMethod ({ cls := "StreamQueries$Bag", name := "clear", desc := "()V" } : Jvm.MethodName)) ∈ lw_all := lw_g (lw_at lw_m2 83 rfl) rfl
theorem q485 : (Jvm.Cond.selects "StreamQueries$Bag" ({ cls := "StreamQueries$Bag", name := "clear", desc := "()V" } : Jvm.MethodName) ({ cls := "StreamQueries$Bag", name := "clear", desc := "()V" } : Jvm.MethodName)) ∈ lw_all := lw_g (lw_at lw_m2 84 rfl) rfl
theorem q486 : (Jvm.Cond.code ({ cls := "StreamQueries$Bag", name := "clear", desc := "()V" } : Jvm.MethodName) prog_2_method_5_code (1 : Nat) (Option.none : Option Jvm.ClassFile.FieldType)) ∈ lw_all := lw_g (lw_at lw_m2 85 rfl) rfl
theorem q487 : (Jvm.Cond.methodLink "StreamQueries$Bag" (27 : Nat) ({ cls := "StreamQueries$Pool", name := "give", desc := "(LStreamQueries$Row;)V" } : Jvm.MethodName)) ∈ lw_all := lw_g (lw_at lw_m2 86 rfl) rfl
theorem q1272 : (Jvm.Cond.instanceMethod ({ cls := "StreamQueries$Bag", name := "size", desc := "()I" } : Jvm.MethodName)) ∈ lw_all := lw_g (lw_at lw_m5 151 rfl) rfl
theorem q1273 : (Jvm.Cond.selects "StreamQueries$Bag" ({ cls := "StreamQueries$Bag", name := "size", desc := "()I" } : Jvm.MethodName) ({ cls := "StreamQueries$Bag", name := "size", desc := "()I" } : Jvm.MethodName)) ∈ lw_all := lw_g (lw_at lw_m5 152 rfl) rfl
theorem q1274 : (Jvm.Cond.code ({ cls := "StreamQueries$Bag", name := "size", desc := "()I" } : Jvm.MethodName) prog_2_method_2_code (1 : Nat) (Option.some Jvm.ClassFile.FieldType.int)) ∈ lw_all := lw_g (lw_at lw_m5 153 rfl) rfl
theorem q1276 : (Jvm.Cond.instanceMethod ({ cls := "StreamQueries$Bag", name := "row", desc := "(I)LStreamQueries$Row;" } : Jvm.MethodName)) ∈ lw_all := lw_g (lw_at lw_m5 155 rfl) rfl
theorem q1277 : (Jvm.Cond.selects "StreamQueries$Bag" ({ cls := "StreamQueries$Bag", name := "row", desc := "(I)LStreamQueries$Row;" } : Jvm.MethodName) ({ cls := "StreamQueries$Bag", name := "row", desc := "(I)LStreamQueries$Row;" } : Jvm.MethodName)) ∈ lw_all := lw_g (lw_at lw_m5 156 rfl) rfl
theorem q1278 : (Jvm.Cond.code ({ cls := "StreamQueries$Bag", name := "row", desc := "(I)LStreamQueries$Row;" } : Jvm.MethodName) prog_2_method_3_code (2 : Nat) (Option.some (Jvm.ClassFile.FieldType.object "StreamQueries$Row"))) ∈ lw_all := lw_g (lw_at lw_m5 157 rfl) rfl
theorem q1338 : (Jvm.Cond.instanceMethod ({ cls := "StreamQueries$Bag", name := "times", desc := "(I)I" } : Jvm.MethodName)) ∈ lw_all := lw_g (lw_at lw_m5 217 rfl) rfl
theorem q1339 : (Jvm.Cond.selects "StreamQueries$Bag" ({ cls := "StreamQueries$Bag", name := "times", desc := "(I)I" } : Jvm.MethodName) ({ cls := "StreamQueries$Bag", name := "times", desc := "(I)I" } : Jvm.MethodName)) ∈ lw_all := lw_g (lw_at lw_m5 218 rfl) rfl
theorem q1340 : (Jvm.Cond.code ({ cls := "StreamQueries$Bag", name := "times", desc := "(I)I" } : Jvm.MethodName) prog_2_method_4_code (2 : Nat) (Option.some Jvm.ClassFile.FieldType.int)) ∈ lw_all := lw_g (lw_at lw_m5 219 rfl) rfl
theorem q1342 : (Jvm.Cond.instanceMethod ({ cls := "StreamQueries$Bag", name := "add", desc := "(LStreamQueries$Row;I)V" } : Jvm.MethodName)) ∈ lw_all := lw_g (lw_at lw_m5 221 rfl) rfl
theorem q1343 : (Jvm.Cond.selects "StreamQueries$Bag" ({ cls := "StreamQueries$Bag", name := "add", desc := "(LStreamQueries$Row;I)V" } : Jvm.MethodName) ({ cls := "StreamQueries$Bag", name := "add", desc := "(LStreamQueries$Row;I)V" } : Jvm.MethodName)) ∈ lw_all := lw_g (lw_at lw_m5 222 rfl) rfl
theorem q1344 : (Jvm.Cond.code ({ cls := "StreamQueries$Bag", name := "add", desc := "(LStreamQueries$Row;I)V" } : Jvm.MethodName) prog_2_method_8_code (5 : Nat) (Option.none : Option Jvm.ClassFile.FieldType)) ∈ lw_all := lw_g (lw_at lw_m5 223 rfl) rfl
theorem q1345 : (Jvm.Cond.methodLink "StreamQueries$Bag" (37 : Nat) ({ cls := "StreamQueries$Bag", name := "find", desc := "(LStreamQueries$Row;)I" } : Jvm.MethodName)) ∈ lw_all := lw_g (lw_at lw_m5 224 rfl) rfl
theorem q1346 : (Jvm.Cond.instanceMethod ({ cls := "StreamQueries$Bag", name := "find", desc := "(LStreamQueries$Row;)I" } : Jvm.MethodName)) ∈ lw_all := lw_g (lw_at lw_m5 225 rfl) rfl
theorem q1347 : (Jvm.Cond.selects "StreamQueries$Bag" ({ cls := "StreamQueries$Bag", name := "find", desc := "(LStreamQueries$Row;)I" } : Jvm.MethodName) ({ cls := "StreamQueries$Bag", name := "find", desc := "(LStreamQueries$Row;)I" } : Jvm.MethodName)) ∈ lw_all := lw_g (lw_at lw_m5 226 rfl) rfl
theorem q1348 : (Jvm.Cond.code ({ cls := "StreamQueries$Bag", name := "find", desc := "(LStreamQueries$Row;)I" } : Jvm.MethodName) prog_2_method_6_code (5 : Nat) (Option.some Jvm.ClassFile.FieldType.int)) ∈ lw_all := lw_g (lw_at lw_m5 227 rfl) rfl
theorem q1349 : (Jvm.Cond.methodLink "StreamQueries$Bag" (33 : Nat) ({ cls := "StreamQueries$Row", name := "compareTo", desc := "(LStreamQueries$Row;)I" } : Jvm.MethodName)) ∈ lw_all := lw_g (lw_at lw_m5 228 rfl) rfl
theorem q1359 : (Jvm.Cond.methodLink "StreamQueries$Bag" (40 : Nat) ({ cls := "StreamQueries$Bag", name := "remove", desc := "(I)V" } : Jvm.MethodName)) ∈ lw_all := lw_g (lw_at lw_m5 238 rfl) rfl
theorem q1360 : (Jvm.Cond.privateMethod ({ cls := "StreamQueries$Bag", name := "remove", desc := "(I)V" } : Jvm.MethodName)) ∈ lw_tbl := lw_at lw_m5 239 rfl
theorem q1361 : (Jvm.Cond.instanceMethod ({ cls := "StreamQueries$Bag", name := "remove", desc := "(I)V" } : Jvm.MethodName)) ∈ lw_all := lw_g (lw_at lw_m6 0 rfl) rfl
theorem q1362 : (Jvm.Cond.code ({ cls := "StreamQueries$Bag", name := "remove", desc := "(I)V" } : Jvm.MethodName) prog_2_method_10_code (2 : Nat) (Option.none : Option Jvm.ClassFile.FieldType)) ∈ lw_all := lw_g (lw_at lw_m6 1 rfl) rfl
theorem q1363 : (Jvm.Cond.methodLink "StreamQueries$Bag" (51 : Nat) ({ cls := "java/lang/System", name := "arraycopy", desc := "(Ljava/lang/Object;ILjava/lang/Object;II)V" } : Jvm.MethodName)) ∈ lw_all := lw_g (lw_at lw_m6 2 rfl) rfl
theorem q1364 : (Jvm.Cond.methodLink "StreamQueries$Bag" (44 : Nat) ({ cls := "StreamQueries$Bag", name := "grow", desc := "()V" } : Jvm.MethodName)) ∈ lw_all := lw_g (lw_at lw_m6 3 rfl) rfl
theorem q1365 : (Jvm.Cond.privateMethod ({ cls := "StreamQueries$Bag", name := "grow", desc := "()V" } : Jvm.MethodName)) ∈ lw_tbl := lw_at lw_m6 4 rfl
theorem q1366 : (Jvm.Cond.instanceMethod ({ cls := "StreamQueries$Bag", name := "grow", desc := "()V" } : Jvm.MethodName)) ∈ lw_all := lw_g (lw_at lw_m6 5 rfl) rfl
theorem q1367 : (Jvm.Cond.code ({ cls := "StreamQueries$Bag", name := "grow", desc := "()V" } : Jvm.MethodName) prog_2_method_9_code (3 : Nat) (Option.none : Option Jvm.ClassFile.FieldType)) ∈ lw_all := lw_g (lw_at lw_m6 6 rfl) rfl
theorem q1368 : (Jvm.Cond.methodLink "StreamQueries$Bag" (47 : Nat) ({ cls := "StreamQueries$Pool", name := "take", desc := "()LStreamQueries$Row;" } : Jvm.MethodName)) ∈ lw_all := lw_g (lw_at lw_m6 7 rfl) rfl
theorem q1373 : (Jvm.Cond.methodLink "StreamQueries$Bag" (57 : Nat) ({ cls := "StreamQueries$Row", name := "take", desc := "(LStreamQueries$Row;)V" } : Jvm.MethodName)) ∈ lw_all := lw_g (lw_at lw_m6 12 rfl) rfl
theorem q1383 : (Jvm.Cond.instanceMethod ({ cls := "StreamQueries$Bag", name := "addAll", desc := "(LStreamQueries$Bag;)V" } : Jvm.MethodName)) ∈ lw_all := lw_g (lw_at lw_m6 22 rfl) rfl
theorem q1384 : (Jvm.Cond.selects "StreamQueries$Bag" ({ cls := "StreamQueries$Bag", name := "addAll", desc := "(LStreamQueries$Bag;)V" } : Jvm.MethodName) ({ cls := "StreamQueries$Bag", name := "addAll", desc := "(LStreamQueries$Bag;)V" } : Jvm.MethodName)) ∈ lw_all := lw_g (lw_at lw_m6 23 rfl) rfl
theorem q1385 : (Jvm.Cond.code ({ cls := "StreamQueries$Bag", name := "addAll", desc := "(LStreamQueries$Bag;)V" } : Jvm.MethodName) prog_2_method_11_code (3 : Nat) (Option.none : Option Jvm.ClassFile.FieldType)) ∈ lw_all := lw_g (lw_at lw_m6 24 rfl) rfl
theorem q1386 : (Jvm.Cond.methodLink "StreamQueries$Bag" (59 : Nat) ({ cls := "StreamQueries$Bag", name := "add", desc := "(LStreamQueries$Row;I)V" } : Jvm.MethodName)) ∈ lw_all := lw_g (lw_at lw_m6 25 rfl) rfl
theorem q1411 : (Jvm.Cond.instanceMethod ({ cls := "StreamQueries$Bag", name := "timesOf", desc := "(LStreamQueries$Row;)I" } : Jvm.MethodName)) ∈ lw_all := lw_g (lw_at lw_m6 50 rfl) rfl
theorem q1412 : (Jvm.Cond.selects "StreamQueries$Bag" ({ cls := "StreamQueries$Bag", name := "timesOf", desc := "(LStreamQueries$Row;)I" } : Jvm.MethodName) ({ cls := "StreamQueries$Bag", name := "timesOf", desc := "(LStreamQueries$Row;)I" } : Jvm.MethodName)) ∈ lw_all := lw_g (lw_at lw_m6 51 rfl) rfl
theorem q1413 : (Jvm.Cond.code ({ cls := "StreamQueries$Bag", name := "timesOf", desc := "(LStreamQueries$Row;)I" } : Jvm.MethodName) prog_2_method_7_code (3 : Nat) (Option.some Jvm.ClassFile.FieldType.int)) ∈ lw_all := lw_g (lw_at lw_m6 52 rfl) rfl
theorem q1480 : (Jvm.Cond.instanceMethod ({ cls := "StreamQueries$Bag", name := "sortBySign", desc := "(LStreamQueries$Bag;)V" } : Jvm.MethodName)) ∈ lw_all := lw_g (lw_at lw_m6 119 rfl) rfl
theorem q1481 : (Jvm.Cond.selects "StreamQueries$Bag" ({ cls := "StreamQueries$Bag", name := "sortBySign", desc := "(LStreamQueries$Bag;)V" } : Jvm.MethodName) ({ cls := "StreamQueries$Bag", name := "sortBySign", desc := "(LStreamQueries$Bag;)V" } : Jvm.MethodName)) ∈ lw_all := lw_g (lw_at lw_m6 120 rfl) rfl
theorem q1482 : (Jvm.Cond.code ({ cls := "StreamQueries$Bag", name := "sortBySign", desc := "(LStreamQueries$Bag;)V" } : Jvm.MethodName) prog_2_method_13_code (4 : Nat) (Option.none : Option Jvm.ClassFile.FieldType)) ∈ lw_all := lw_g (lw_at lw_m6 121 rfl) rfl
theorem q1483 : (Jvm.Cond.methodLink "StreamQueries$Bag" (63 : Nat) ({ cls := "StreamQueries$Bag", name := "clear", desc := "()V" } : Jvm.MethodName)) ∈ lw_all := lw_g (lw_at lw_m6 122 rfl) rfl
theorem q1484 : (Jvm.Cond.methodLink "StreamQueries$Bag" (66 : Nat) ({ cls := "StreamQueries$Bag", name := "append", desc := "(LStreamQueries$Row;I)V" } : Jvm.MethodName)) ∈ lw_all := lw_g (lw_at lw_m6 123 rfl) rfl
theorem q1485 : (Jvm.Cond.privateMethod ({ cls := "StreamQueries$Bag", name := "append", desc := "(LStreamQueries$Row;I)V" } : Jvm.MethodName)) ∈ lw_tbl := lw_at lw_m6 124 rfl
theorem q1486 : (Jvm.Cond.instanceMethod ({ cls := "StreamQueries$Bag", name := "append", desc := "(LStreamQueries$Row;I)V" } : Jvm.MethodName)) ∈ lw_all := lw_g (lw_at lw_m6 125 rfl) rfl
theorem q1487 : (Jvm.Cond.code ({ cls := "StreamQueries$Bag", name := "append", desc := "(LStreamQueries$Row;I)V" } : Jvm.MethodName) prog_2_method_14_code (3 : Nat) (Option.none : Option Jvm.ClassFile.FieldType)) ∈ lw_all := lw_g (lw_at lw_m6 126 rfl) rfl
theorem q1566 : (Jvm.Cond.instanceMethod ({ cls := "StreamQueries$Bag", name := "total", desc := "()I" } : Jvm.MethodName)) ∈ lw_all := lw_g (lw_at lw_m6 205 rfl) rfl
theorem q1567 : (Jvm.Cond.selects "StreamQueries$Bag" ({ cls := "StreamQueries$Bag", name := "total", desc := "()I" } : Jvm.MethodName) ({ cls := "StreamQueries$Bag", name := "total", desc := "()I" } : Jvm.MethodName)) ∈ lw_all := lw_g (lw_at lw_m6 206 rfl) rfl
theorem q1568 : (Jvm.Cond.code ({ cls := "StreamQueries$Bag", name := "total", desc := "()I" } : Jvm.MethodName) prog_2_method_12_code (3 : Nat) (Option.some Jvm.ClassFile.FieldType.int)) ∈ lw_all := lw_g (lw_at lw_m6 207 rfl) rfl
theorem in_X6 : ∀ w ∈ wsX60, w ∈ lw_all := lw_in wsX60 [408, 410, 412, 414] (by decide +kernel) (by decide +kernel)
def RX7 : String := "StreamQueriesModel"
def TX7 : u_T := fun k => match k with
  | 0 => ("StreamQueriesModel", "tape", "[B", true)
  | 1 => ("StreamQueriesModel", "tapeSize", "I", false)
  | 2 => ("StreamQueriesModel", "text", "[B", true)
  | 3 => ("StreamQueriesModel", "textSize", "I", false)
  | 4 => ("StreamQueriesModel", "streams", "I", false)
  | 5 => ("StreamQueriesModel", "columns", "[I", true)
  | 6 => ("StreamQueriesModel", "rowThere", "[Z", true)
  | 7 => ("StreamQueriesModel", "rowTime", "[J", true)
  | 8 => ("StreamQueriesModel", "rowValue", "[J", true)
  | 9 => ("StreamQueriesModel", "rowNull", "[Z", true)
  | 10 => ("StreamQueriesModel", "watermark", "J", false)
  | 11 => ("StreamQueriesModel", "draftSize", "I", false)
  | 12 => ("StreamQueriesModel", "draftValue", "[J", true)
  | 13 => ("StreamQueriesModel", "draftNull", "[Z", true)
  | 14 => ("StreamQueriesModel", "sort", "[I", true)
  | 15 => ("StreamQueriesModel", "place", "[I", true)
  | 16 => ("StreamQueriesModel", "length", "[I", true)
  | 17 => ("StreamQueriesModel", "number", "[J", true)
  | 18 => ("StreamQueriesModel", "at", "I", false)
  | 19 => ("StreamQueriesModel", "fault", "I", false)
  | 20 => ("StreamQueriesModel", "faultPlace", "I", false)
  | 21 => ("StreamQueriesModel", "good", "Z", false)
  | 22 => ("StreamQueriesModel", "exprs", "I", false)
  | 23 => ("StreamQueriesModel", "kind", "[I", true)
  | 24 => ("StreamQueriesModel", "left", "[I", true)
  | 25 => ("StreamQueriesModel", "right", "[I", true)
  | 26 => ("StreamQueriesModel", "third", "[I", true)
  | 27 => ("StreamQueriesModel", "how", "[I", true)
  | 28 => ("StreamQueriesModel", "told", "[J", true)
  | 29 => ("StreamQueriesModel", "begins", "[I", true)
  | 30 => ("StreamQueriesModel", "word", "[I", true)
  | 31 => ("StreamQueriesModel", "type", "[I", true)
  | 32 => ("StreamQueriesModel", "nextIn", "[I", true)
  | 33 => ("StreamQueriesModel", "column", "[I", true)
  | 34 => ("StreamQueriesModel", "selects", "I", false)
  | 35 => ("StreamQueriesModel", "sDistinct", "[I", true)
  | 36 => ("StreamQueriesModel", "sItems", "[I", true)
  | 37 => ("StreamQueriesModel", "sSources", "[I", true)
  | 38 => ("StreamQueriesModel", "sWhere", "[I", true)
  | 39 => ("StreamQueriesModel", "sGroups", "[I", true)
  | 40 => ("StreamQueriesModel", "sGroupWord", "[I", true)
  | 41 => ("StreamQueriesModel", "sHaving", "[I", true)
  | 42 => ("StreamQueriesModel", "sAggregates", "[I", true)
  | 43 => ("StreamQueriesModel", "sFirstAggregate", "[I", true)
  | 44 => ("StreamQueriesModel", "item", "[I", true)
  | 45 => ("StreamQueriesModel", "itemName", "[I", true)
  | 46 => ("StreamQueriesModel", "itemType", "[I", true)
  | 47 => ("StreamQueriesModel", "group", "[I", true)
  | 48 => ("StreamQueriesModel", "groupName", "[I", true)
  | 49 => ("StreamQueriesModel", "oStream", "[I", true)
  | 50 => ("StreamQueriesModel", "oToken", "[I", true)
  | 51 => ("StreamQueriesModel", "oKeeps", "[Z", true)
  | 52 => ("StreamQueriesModel", "oKeep", "[J", true)
  | 53 => ("StreamQueriesModel", "oQuery", "[I", true)
  | 54 => ("StreamQueriesModel", "oClose", "[I", true)
  | 55 => ("StreamQueriesModel", "oName", "[I", true)
  | 56 => ("StreamQueriesModel", "oLeft", "[Z", true)
  | 57 => ("StreamQueriesModel", "oJoin", "[I", true)
  | 58 => ("StreamQueriesModel", "oOn", "[I", true)
  | 59 => ("StreamQueriesModel", "queries", "I", false)
  | 60 => ("StreamQueriesModel", "qSelects", "[I", true)
  | 61 => ("StreamQueriesModel", "qSelect", "[I", true)
  | 62 => ("StreamQueriesModel", "qSet", "[I", true)
  | 63 => ("StreamQueriesModel", "qSetWord", "[I", true)
  | 64 => ("StreamQueriesModel", "qOrders", "[I", true)
  | 65 => ("StreamQueriesModel", "qOrderWord", "[I", true)
  | 66 => ("StreamQueriesModel", "order", "[I", true)
  | 67 => ("StreamQueriesModel", "orderDown", "[Z", true)
  | 68 => ("StreamQueriesModel", "qLimit", "[I", true)
  | 69 => ("StreamQueriesModel", "names", "I", false)
  | 70 => ("StreamQueriesModel", "nest", "I", false)
  | 71 => ("StreamQueriesModel", "select", "I", false)
  | 72 => ("StreamQueriesModel", "mayAggregate", "Z", false)
  | 73 => ("StreamQueriesModel", "inAggregate", "Z", false)
  | 74 => ("StreamQueriesModel", "startPlace", "I", false)
  | 75 => ("StreamQueriesModel", "unbounded", "Z", false)
  | 76 => ("StreamQueriesModel", "scopeKind", "I", false)
  | 77 => ("StreamQueriesModel", "scopeSelect", "I", false)
  | 78 => ("StreamQueriesModel", "scopeSources", "I", false)
  | 79 => ("StreamQueriesModel", "oOffset", "[I", true)
  | 80 => ("StreamQueriesModel", "groupType", "[I", true)
  | 81 => ("StreamQueriesModel", "hasQuery", "Z", false)
  | 82 => ("StreamQueriesModel", "lastFault", "I", false)
  | 83 => ("StreamQueriesModel", "goodText", "[B", true)
  | 84 => ("StreamQueriesModel", "goodSize", "I", false)
  | 85 => ("StreamQueriesModel", "cell", "[J", true)
  | 86 => ("StreamQueriesModel", "none", "[Z", true)
  | 87 => ("StreamQueriesModel", "used", "I", false)
  | 88 => ("StreamQueriesModel", "relBase", "[I", true)
  | 89 => ("StreamQueriesModel", "relRows", "[I", true)
  | 90 => ("StreamQueriesModel", "relColumns", "[I", true)
  | 91 => ("StreamQueriesModel", "relations", "I", false)
  | 92 => ("StreamQueriesModel", "isNone", "Z", false)
  | 93 => ("StreamQueriesModel", "rowAtHand", "I", false)
  | 94 => ("StreamQueriesModel", "groupRow", "I", false)
  | 95 => ("StreamQueriesModel", "groupRel", "I", false)
  | 96 => ("StreamQueriesModel", "groupOf", "I", false)
  | 97 => ("StreamQueriesModel", "inGroup", "Z", false)
  | 98 => ("StreamQueriesModel", "memberOf", "[I", true)
  | 99 => ("StreamQueriesModel", "taken", "[Z", true)
  | 100 => ("StreamQueriesModel", "answerRows", "I", false)
  | 101 => ("StreamQueriesModel", "answerColumns", "I", false)
  | 102 => ("StreamQueriesModel", "answer", "[J", true)
  | 103 => ("StreamQueriesModel", "answerNone", "[Z", true)
  | 104 => ("StreamQueriesModel", "sortedRows", "I", false)
  | 105 => ("StreamQueriesModel", "sorted", "[J", true)
  | 106 => ("StreamQueriesModel", "sortedNone", "[Z", true)
  | 107 => ("StreamQueriesModel", "oldRows", "I", false)
  | 108 => ("StreamQueriesModel", "old", "[J", true)
  | 109 => ("StreamQueriesModel", "oldNone", "[Z", true)
  | 110 => ("StreamQueriesModel", "changeCount", "I", false)
  | 111 => ("StreamQueriesModel", "changeBy", "[I", true)
  | 112 => ("StreamQueriesModel", "changeValue", "[J", true)
  | 113 => ("StreamQueriesModel", "changeNone", "[Z", true)
  | _ => ("StreamQueriesModel", "rank", "[I", true)
def tyX7 : Nat → FieldType := fun k => match k with
  | 0 => .array .byte
  | 1 => .int
  | 2 => .array .byte
  | 3 => .int
  | 4 => .int
  | 5 => .array .int
  | 6 => .array .boolean
  | 7 => .array .long
  | 8 => .array .long
  | 9 => .array .boolean
  | 10 => .long
  | 11 => .int
  | 12 => .array .long
  | 13 => .array .boolean
  | 14 => .array .int
  | 15 => .array .int
  | 16 => .array .int
  | 17 => .array .long
  | 18 => .int
  | 19 => .int
  | 20 => .int
  | 21 => .boolean
  | 22 => .int
  | 23 => .array .int
  | 24 => .array .int
  | 25 => .array .int
  | 26 => .array .int
  | 27 => .array .int
  | 28 => .array .long
  | 29 => .array .int
  | 30 => .array .int
  | 31 => .array .int
  | 32 => .array .int
  | 33 => .array .int
  | 34 => .int
  | 35 => .array .int
  | 36 => .array .int
  | 37 => .array .int
  | 38 => .array .int
  | 39 => .array .int
  | 40 => .array .int
  | 41 => .array .int
  | 42 => .array .int
  | 43 => .array .int
  | 44 => .array .int
  | 45 => .array .int
  | 46 => .array .int
  | 47 => .array .int
  | 48 => .array .int
  | 49 => .array .int
  | 50 => .array .int
  | 51 => .array .boolean
  | 52 => .array .long
  | 53 => .array .int
  | 54 => .array .int
  | 55 => .array .int
  | 56 => .array .boolean
  | 57 => .array .int
  | 58 => .array .int
  | 59 => .int
  | 60 => .array .int
  | 61 => .array .int
  | 62 => .array .int
  | 63 => .array .int
  | 64 => .array .int
  | 65 => .array .int
  | 66 => .array .int
  | 67 => .array .boolean
  | 68 => .array .int
  | 69 => .int
  | 70 => .int
  | 71 => .int
  | 72 => .boolean
  | 73 => .boolean
  | 74 => .int
  | 75 => .boolean
  | 76 => .int
  | 77 => .int
  | 78 => .int
  | 79 => .array .int
  | 80 => .array .int
  | 81 => .boolean
  | 82 => .int
  | 83 => .array .byte
  | 84 => .int
  | 85 => .array .long
  | 86 => .array .boolean
  | 87 => .int
  | 88 => .array .int
  | 89 => .array .int
  | 90 => .array .int
  | 91 => .int
  | 92 => .boolean
  | 93 => .int
  | 94 => .int
  | 95 => .int
  | 96 => .int
  | 97 => .boolean
  | 98 => .array .int
  | 99 => .array .boolean
  | 100 => .int
  | 101 => .int
  | 102 => .array .long
  | 103 => .array .boolean
  | 104 => .int
  | 105 => .array .long
  | 106 => .array .boolean
  | 107 => .int
  | 108 => .array .long
  | 109 => .array .boolean
  | 110 => .int
  | 111 => .array .int
  | 112 => .array .long
  | 113 => .array .boolean
  | _ => .array .int
abbrev wsX70 : List Cond := u_ws RX7 TX7 115
theorem nmX7 : ∀ a, a < 115 → ∀ b, b < 115 → a ≠ b → (TX7 a).2.1 ≠ (TX7 b).2.1 := by decide +kernel
theorem tyX7_ok : ∀ k, k < 115 → parseFieldDescriptor (TX7 k).2.2.1 = some (tyX7 k) := by decide +kernel
abbrev cX7_init : ByteArray := prog_12_method_1_code
def yX7_init : MethodName := ⟨RX7, "<init>", "()V"⟩
abbrev cX7_feed : ByteArray := prog_12_method_3_code
def yX7_feed : MethodName := ⟨RX7, "feed", "(IIIII)I"⟩
abbrev cX7_lay : ByteArray := prog_12_method_4_code
def yX7_lay : MethodName := ⟨RX7, "lay", "(I)V"⟩
abbrev cX7_cut : ByteArray := prog_12_method_5_code
def yX7_cut : MethodName := ⟨RX7, "cut", "(I)I"⟩
abbrev cX7_stream : ByteArray := prog_12_method_6_code
def yX7_stream : MethodName := ⟨RX7, "stream", "(I)I"⟩
abbrev cX7_value : ByteArray := prog_12_method_7_code
def yX7_value : MethodName := ⟨RX7, "value", "(J)I"⟩
abbrev cX7_draft : ByteArray := prog_12_method_9_code
def yX7_draft : MethodName := ⟨RX7, "draft", "(JZ)I"⟩
abbrev cX7_nothing : ByteArray := prog_12_method_8_code
def yX7_nothing : MethodName := ⟨RX7, "nothing", "()I"⟩
abbrev cX7_row : ByteArray := prog_12_method_10_code
def yX7_row : MethodName := ⟨RX7, "row", "(IJ)I"⟩
abbrev cX7_renew : ByteArray := prog_12_method_94_code
def yX7_renew : MethodName := ⟨RX7, "renew", "(Z)V"⟩
abbrev cX7_workQuery : ByteArray := prog_12_method_90_code
def yX7_workQuery : MethodName := ⟨RX7, "workQuery", "(I)I"⟩
abbrev cX7_workSelect : ByteArray := prog_12_method_83_code
def yX7_workSelect : MethodName := ⟨RX7, "workSelect", "(I)I"⟩
abbrev cX7_workSource : ByteArray := prog_12_method_81_code
def yX7_workSource : MethodName := ⟨RX7, "workSource", "(I)I"⟩
abbrev cX7_relation : ByteArray := prog_12_method_64_code
def yX7_relation : MethodName := ⟨RX7, "relation", "(I)I"⟩
abbrev cX7_isIn : ByteArray := prog_12_method_80_code
def yX7_isIn : MethodName := ⟨RX7, "isIn", "(II)Z"⟩
abbrev cX7_since : ByteArray := prog_12_method_79_code
def yX7_since : MethodName := ⟨RX7, "since", "(I)J"⟩
abbrev cX7_newRow : ByteArray := prog_12_method_65_code
def yX7_newRow : MethodName := ⟨RX7, "newRow", "(I)I"⟩
abbrev cX7_join : ByteArray := prog_12_method_82_code
def yX7_join : MethodName := ⟨RX7, "join", "(III)I"⟩
abbrev cX7_rowAt : ByteArray := prog_12_method_66_code
def yX7_rowAt : MethodName := ⟨RX7, "rowAt", "(II)I"⟩
abbrev cX7_copy : ByteArray := prog_12_method_67_code
def yX7_copy : MethodName := ⟨RX7, "copy", "(III)V"⟩
abbrev cX7_truth : ByteArray := prog_12_method_70_code
def yX7_truth : MethodName := ⟨RX7, "truth", "(I)I"⟩
abbrev cX7_eval : ByteArray := prog_12_method_74_code
def yX7_eval : MethodName := ⟨RX7, "eval", "(I)J"⟩
abbrev cX7_some : ByteArray := prog_12_method_72_code
def yX7_some : MethodName := ⟨RX7, "some", "(J)J"⟩
abbrev cX7_nothing0 : ByteArray := prog_12_method_71_code
def yX7_nothing0 : MethodName := ⟨RX7, "nothing0", "()J"⟩
abbrev cX7_aggregated : ByteArray := prog_12_method_78_code
def yX7_aggregated : MethodName := ⟨RX7, "aggregated", "(II)J"⟩
abbrev cX7_both : ByteArray := prog_12_method_75_code
def yX7_both : MethodName := ⟨RX7, "both", "(ZII)I"⟩
abbrev cX7_ofTruth : ByteArray := prog_12_method_73_code
def yX7_ofTruth : MethodName := ⟨RX7, "ofTruth", "(I)J"⟩
abbrev cX7_isOneOf : ByteArray := prog_12_method_77_code
def yX7_isOneOf : MethodName := ⟨RX7, "isOneOf", "(I)J"⟩
abbrev cX7_some2 : ByteArray := prog_12_method_76_code
def yX7_some2 : MethodName := ⟨RX7, "some2", "(IIJJ)J"⟩
abbrev cX7_filter : ByteArray := prog_12_method_84_code
def yX7_filter : MethodName := ⟨RX7, "filter", "(II)I"⟩
abbrev cX7_isGrouped : ByteArray := prog_12_method_59_code
def yX7_isGrouped : MethodName := ⟨RX7, "isGrouped", "(I)Z"⟩
abbrev cX7_grouped : ByteArray := prog_12_method_86_code
def yX7_grouped : MethodName := ⟨RX7, "grouped", "(II)I"⟩
abbrev cX7_compareRows : ByteArray := prog_12_method_69_code
def yX7_compareRows : MethodName := ⟨RX7, "compareRows", "(III)I"⟩
abbrev cX7_compare : ByteArray := prog_12_method_68_code
def yX7_compare : MethodName := ⟨RX7, "compare", "(JZJZ)I"⟩
abbrev cX7_plain : ByteArray := prog_12_method_85_code
def yX7_plain : MethodName := ⟨RX7, "plain", "(II)I"⟩
abbrev cX7_once : ByteArray := prog_12_method_88_code
def yX7_once : MethodName := ⟨RX7, "once", "(I)I"⟩
abbrev cX7_hasRow : ByteArray := prog_12_method_87_code
def yX7_hasRow : MethodName := ⟨RX7, "hasRow", "(III)Z"⟩
abbrev cX7_setOf : ByteArray := prog_12_method_89_code
def yX7_setOf : MethodName := ⟨RX7, "setOf", "(III)I"⟩
abbrev cX7_ordered : ByteArray := prog_12_method_91_code
def yX7_ordered : MethodName := ⟨RX7, "ordered", "(II)I"⟩
abbrev cX7_ahead : ByteArray := prog_12_method_92_code
def yX7_ahead : MethodName := ⟨RX7, "ahead", "(IIIII)Z"⟩
abbrev cX7_sort : ByteArray := prog_12_method_93_code
def yX7_sort : MethodName := ⟨RX7, "sort", "(I)V"⟩
abbrev cX7_differ : ByteArray := prog_12_method_97_code
def yX7_differ : MethodName := ⟨RX7, "differ", "(Z)V"⟩
abbrev cX7_compareAcross : ByteArray := prog_12_method_95_code
def yX7_compareAcross : MethodName := ⟨RX7, "compareAcross", "(II)I"⟩
abbrev cX7_isLikeNext : ByteArray := prog_12_method_96_code
def yX7_isLikeNext : MethodName := ⟨RX7, "isLikeNext", "(ZI)Z"⟩
abbrev cX7_back : ByteArray := prog_12_method_11_code
def yX7_back : MethodName := ⟨RX7, "back", "(II)Z"⟩
abbrev cX7_watermark : ByteArray := prog_12_method_12_code
def yX7_watermark : MethodName := ⟨RX7, "watermark", "(J)I"⟩
abbrev cX7_query : ByteArray := prog_12_method_62_code
def yX7_query : MethodName := ⟨RX7, "query", "()I"⟩
abbrev cX7_take : ByteArray := prog_12_method_61_code
def yX7_take : MethodName := ⟨RX7, "take", "()V"⟩
abbrev cX7_tokens : ByteArray := prog_12_method_15_code
def yX7_tokens : MethodName := ⟨RX7, "tokens", "()V"⟩
abbrev cX7_isLetter : ByteArray := prog_12_method_13_code
def yX7_isLetter : MethodName := ⟨RX7, "isLetter", "(I)Z"⟩
abbrev cX7_isDigit : ByteArray := prog_12_method_14_code
def yX7_isDigit : MethodName := ⟨RX7, "isDigit", "(I)Z"⟩
abbrev cX7_takeWord : ByteArray := prog_12_method_20_code
def yX7_takeWord : MethodName := ⟨RX7, "takeWord", "(Ljava/lang/String;)Z"⟩
abbrev cX7_isWord : ByteArray := prog_12_method_19_code
def yX7_isWord : MethodName := ⟨RX7, "isWord", "(Ljava/lang/String;)Z"⟩
abbrev cX7_isText : ByteArray := prog_12_method_18_code
def yX7_isText : MethodName := ⟨RX7, "isText", "(ILjava/lang/String;)Z"⟩
abbrev cX7_queryOf : ByteArray := prog_12_method_42_code
def yX7_queryOf : MethodName := ⟨RX7, "queryOf", "()I"⟩
abbrev cX7_selectOf : ByteArray := prog_12_method_43_code
def yX7_selectOf : MethodName := ⟨RX7, "selectOf", "()I"⟩
abbrev cX7_needWord : ByteArray := prog_12_method_21_code
def yX7_needWord : MethodName := ⟨RX7, "needWord", "(Ljava/lang/String;)V"⟩
abbrev cX7_wrong : ByteArray := prog_12_method_17_code
def yX7_wrong : MethodName := ⟨RX7, "wrong", "()V"⟩
abbrev cX7_tell : ByteArray := prog_12_method_16_code
def yX7_tell : MethodName := ⟨RX7, "tell", "(II)V"⟩
abbrev cX7_begins : ByteArray := prog_12_method_30_code
def yX7_begins : MethodName := ⟨RX7, "begins", "(Z)Z"⟩
abbrev cX7_isTaken : ByteArray := prog_12_method_25_code
def yX7_isTaken : MethodName := ⟨RX7, "isTaken", "(I)Z"⟩
abbrev cX7_expr : ByteArray := prog_12_method_32_code
def yX7_expr : MethodName := ⟨RX7, "expr", "()I"⟩
abbrev cX7_andExpr : ByteArray := prog_12_method_33_code
def yX7_andExpr : MethodName := ⟨RX7, "andExpr", "()I"⟩
abbrev cX7_notExpr : ByteArray := prog_12_method_34_code
def yX7_notExpr : MethodName := ⟨RX7, "notExpr", "()I"⟩
abbrev cX7_test : ByteArray := prog_12_method_35_code
def yX7_test : MethodName := ⟨RX7, "test", "()I"⟩
abbrev cX7_sum : ByteArray := prog_12_method_36_code
def yX7_sum : MethodName := ⟨RX7, "sum", "()I"⟩
abbrev cX7_part : ByteArray := prog_12_method_37_code
def yX7_part : MethodName := ⟨RX7, "part", "()I"⟩
abbrev cX7_sign : ByteArray := prog_12_method_38_code
def yX7_sign : MethodName := ⟨RX7, "sign", "()I"⟩
abbrev cX7_isSign : ByteArray := prog_12_method_22_code
def yX7_isSign : MethodName := ⟨RX7, "isSign", "(I)Z"⟩
abbrev cX7_one : ByteArray := prog_12_method_39_code
def yX7_one : MethodName := ⟨RX7, "one", "()I"⟩
abbrev cX7_make : ByteArray := prog_12_method_31_code
def yX7_make : MethodName := ⟨RX7, "make", "(IIIIII)I"⟩
abbrev cX7_deeper : ByteArray := prog_12_method_29_code
def yX7_deeper : MethodName := ⟨RX7, "deeper", "(I)V"⟩
abbrev cX7_needSign : ByteArray := prog_12_method_24_code
def yX7_needSign : MethodName := ⟨RX7, "needSign", "(I)V"⟩
abbrev cX7_takeSign : ByteArray := prog_12_method_23_code
def yX7_takeSign : MethodName := ⟨RX7, "takeSign", "(I)Z"⟩
abbrev cX7_aggregate : ByteArray := prog_12_method_40_code
def yX7_aggregate : MethodName := ⟨RX7, "aggregate", "(I)I"⟩
abbrev cX7_columnOf : ByteArray := prog_12_method_41_code
def yX7_columnOf : MethodName := ⟨RX7, "columnOf", "(I)I"⟩
abbrev cX7_name : ByteArray := prog_12_method_27_code
def yX7_name : MethodName := ⟨RX7, "name", "()I"⟩
abbrev cX7_isName : ByteArray := prog_12_method_26_code
def yX7_isName : MethodName := ⟨RX7, "isName", "()Z"⟩
abbrev cX7_source : ByteArray := prog_12_method_44_code
def yX7_source : MethodName := ⟨RX7, "source", "(IZI)V"⟩
abbrev cX7_judgeQuery : ByteArray := prog_12_method_56_code
def yX7_judgeQuery : MethodName := ⟨RX7, "judgeQuery", "(I)V"⟩
abbrev cX7_judgeSelect : ByteArray := prog_12_method_58_code
def yX7_judgeSelect : MethodName := ⟨RX7, "judgeSelect", "(I)V"⟩
abbrev cX7_areNamed : ByteArray := prog_12_method_60_code
def yX7_areNamed : MethodName := ⟨RX7, "areNamed", "(I)Z"⟩
abbrev cX7_isSame : ByteArray := prog_12_method_28_code
def yX7_isSame : MethodName := ⟨RX7, "isSame", "(II)Z"⟩
abbrev cX7_columnsOf : ByteArray := prog_12_method_47_code
def yX7_columnsOf : MethodName := ⟨RX7, "columnsOf", "(I)I"⟩
abbrev cX7_isKeptSelect : ByteArray := prog_12_method_53_code
def yX7_isKeptSelect : MethodName := ⟨RX7, "isKeptSelect", "(II)Z"⟩
abbrev cX7_isKept : ByteArray := prog_12_method_52_code
def yX7_isKept : MethodName := ⟨RX7, "isKept", "(I)Z"⟩
abbrev cX7_isKeptQuery : ByteArray := prog_12_method_54_code
def yX7_isKeptQuery : MethodName := ⟨RX7, "isKeptQuery", "(I)Z"⟩
abbrev cX7_bounded : ByteArray := prog_12_method_55_code
def yX7_bounded : MethodName := ⟨RX7, "bounded", "(ZI)V"⟩
abbrev cX7_sourcesOf : ByteArray := prog_12_method_57_code
def yX7_sourcesOf : MethodName := ⟨RX7, "sourcesOf", "(II)V"⟩
abbrev cX7_judge : ByteArray := prog_12_method_51_code
def yX7_judge : MethodName := ⟨RX7, "judge", "(I)V"⟩
abbrev cX7_find : ByteArray := prog_12_method_49_code
def yX7_find : MethodName := ⟨RX7, "find", "(I)I"⟩
abbrev cX7_nameOf : ByteArray := prog_12_method_45_code
def yX7_nameOf : MethodName := ⟨RX7, "nameOf", "(II)I"⟩
abbrev cX7_isNamed : ByteArray := prog_12_method_48_code
def yX7_isNamed : MethodName := ⟨RX7, "isNamed", "(II)Z"⟩
abbrev cX7_typeOf : ByteArray := prog_12_method_46_code
def yX7_typeOf : MethodName := ⟨RX7, "typeOf", "(II)I"⟩
abbrev cX7_want : ByteArray := prog_12_method_50_code
def yX7_want : MethodName := ⟨RX7, "want", "(II)V"⟩
abbrev cX7_fault : ByteArray := prog_12_method_63_code
def yX7_fault : MethodName := ⟨RX7, "fault", "()I"⟩
abbrev cX7_changes : ByteArray := prog_12_method_98_code
def yX7_changes : MethodName := ⟨RX7, "changes", "()I"⟩
abbrev cX7_change : ByteArray := prog_12_method_100_code
def yX7_change : MethodName := ⟨RX7, "change", "(I)I"⟩
abbrev cX7_changed : ByteArray := prog_12_method_101_code
def yX7_changed : MethodName := ⟨RX7, "changed", "(II)J"⟩
abbrev cX7_isChange : ByteArray := prog_12_method_99_code
def yX7_isChange : MethodName := ⟨RX7, "isChange", "(II)Z"⟩
abbrev cX7_changedNull : ByteArray := prog_12_method_102_code
def yX7_changedNull : MethodName := ⟨RX7, "changedNull", "(II)Z"⟩
abbrev cX7_rows : ByteArray := prog_12_method_103_code
def yX7_rows : MethodName := ⟨RX7, "rows", "()I"⟩
abbrev cX7_at : ByteArray := prog_12_method_105_code
def yX7_at : MethodName := ⟨RX7, "at", "(II)J"⟩
abbrev cX7_isAnswer : ByteArray := prog_12_method_104_code
def yX7_isAnswer : MethodName := ⟨RX7, "isAnswer", "(II)Z"⟩
abbrev cX7_isNull : ByteArray := prog_12_method_106_code
def yX7_isNull : MethodName := ⟨RX7, "isNull", "(II)Z"⟩
abbrev cX7_type : ByteArray := prog_12_method_107_code
def yX7_type : MethodName := ⟨RX7, "type", "(I)I"⟩
abbrev cX7_three : ByteArray := prog_12_method_108_code
def yX7_three : MethodName := ⟨RX7, "three", "(III)I"⟩
abbrev cX7_told : ByteArray := prog_12_method_109_code
def yX7_told : MethodName := ⟨RX7, "told", "(I)I"⟩
theorem q169 : (Jvm.Cond.initialized "StreamQueriesModel") ∈ lw_all := lw_g (lw_at lw_m1 8 rfl) rfl
theorem q1628 : (Jvm.Cond.instantiable "StreamQueriesModel" (115 : Nat)) ∈ lw_all := lw_g (lw_at lw_m7 27 rfl) rfl
theorem q1630 : (Jvm.Cond.instanceMethod ({ cls := "StreamQueriesModel", name := "<init>", desc := "()V" } : Jvm.MethodName)) ∈ lw_all := lw_g (lw_at lw_m7 29 rfl) rfl
theorem q1631 : (Jvm.Cond.code ({ cls := "StreamQueriesModel", name := "<init>", desc := "()V" } : Jvm.MethodName) prog_12_method_1_code (1 : Nat) (Option.none : Option Jvm.ClassFile.FieldType)) ∈ lw_all := lw_g (lw_at lw_m7 30 rfl) rfl
theorem q1632 : (Jvm.Cond.methodLink "StreamQueriesModel" (1 : Nat) ({ cls := "java/lang/Object", name := "<init>", desc := "()V" } : Jvm.MethodName)) ∈ lw_all := lw_g (lw_at lw_m7 31 rfl) rfl
theorem q1633 : (Jvm.Cond.constant "StreamQueriesModel" (193 : Nat) (400000 : Int32)) ∈ lw_all := lw_g (lw_at lw_m7 32 rfl) rfl
theorem q1634 : (Jvm.Cond.constantLong "StreamQueriesModel" (247 : Nat) (-9223372036854775808 : Int64)) ∈ lw_all := lw_g (lw_at lw_m7 33 rfl) rfl
theorem q1635 : (Jvm.Cond.fieldLink "StreamQueriesModel" (7 : Nat) "StreamQueriesModel" "tape" "[B") ∈ lw_all := lw_g (lw_at lw_m7 34 rfl) rfl
theorem q1636 : (Jvm.Cond.fieldLink "StreamQueriesModel" (253 : Nat) "StreamQueriesModel" "tapeSize" "I") ∈ lw_all := lw_g (lw_at lw_m7 35 rfl) rfl
theorem q1637 : (Jvm.Cond.fieldLink "StreamQueriesModel" (13 : Nat) "StreamQueriesModel" "text" "[B") ∈ lw_all := lw_g (lw_at lw_m7 36 rfl) rfl
theorem q1638 : (Jvm.Cond.fieldLink "StreamQueriesModel" (278 : Nat) "StreamQueriesModel" "textSize" "I") ∈ lw_all := lw_g (lw_at lw_m7 37 rfl) rfl
theorem q1639 : (Jvm.Cond.fieldLink "StreamQueriesModel" (261 : Nat) "StreamQueriesModel" "streams" "I") ∈ lw_all := lw_g (lw_at lw_m7 38 rfl) rfl
theorem q1640 : (Jvm.Cond.fieldLink "StreamQueriesModel" (16 : Nat) "StreamQueriesModel" "columns" "[I") ∈ lw_all := lw_g (lw_at lw_m7 39 rfl) rfl
theorem q1641 : (Jvm.Cond.fieldLink "StreamQueriesModel" (20 : Nat) "StreamQueriesModel" "rowThere" "[Z") ∈ lw_all := lw_g (lw_at lw_m7 40 rfl) rfl
theorem q1642 : (Jvm.Cond.fieldLink "StreamQueriesModel" (24 : Nat) "StreamQueriesModel" "rowTime" "[J") ∈ lw_all := lw_g (lw_at lw_m7 41 rfl) rfl
theorem q1643 : (Jvm.Cond.fieldLink "StreamQueriesModel" (28 : Nat) "StreamQueriesModel" "rowValue" "[J") ∈ lw_all := lw_g (lw_at lw_m7 42 rfl) rfl
theorem q1644 : (Jvm.Cond.fieldLink "StreamQueriesModel" (31 : Nat) "StreamQueriesModel" "rowNull" "[Z") ∈ lw_all := lw_g (lw_at lw_m7 43 rfl) rfl
theorem q1645 : (Jvm.Cond.fieldLink "StreamQueriesModel" (249 : Nat) "StreamQueriesModel" "watermark" "J") ∈ lw_all := lw_g (lw_at lw_m7 44 rfl) rfl
theorem q1646 : (Jvm.Cond.fieldLink "StreamQueriesModel" (268 : Nat) "StreamQueriesModel" "draftSize" "I") ∈ lw_all := lw_g (lw_at lw_m7 45 rfl) rfl
theorem q1647 : (Jvm.Cond.fieldLink "StreamQueriesModel" (34 : Nat) "StreamQueriesModel" "draftValue" "[J") ∈ lw_all := lw_g (lw_at lw_m7 46 rfl) rfl
theorem q1648 : (Jvm.Cond.fieldLink "StreamQueriesModel" (37 : Nat) "StreamQueriesModel" "draftNull" "[Z") ∈ lw_all := lw_g (lw_at lw_m7 47 rfl) rfl
theorem q1649 : (Jvm.Cond.fieldLink "StreamQueriesModel" (40 : Nat) "StreamQueriesModel" "sort" "[I") ∈ lw_all := lw_g (lw_at lw_m7 48 rfl) rfl
theorem q1650 : (Jvm.Cond.fieldLink "StreamQueriesModel" (43 : Nat) "StreamQueriesModel" "place" "[I") ∈ lw_all := lw_g (lw_at lw_m7 49 rfl) rfl
theorem q1651 : (Jvm.Cond.fieldLink "StreamQueriesModel" (46 : Nat) "StreamQueriesModel" "length" "[I") ∈ lw_all := lw_g (lw_at lw_m7 50 rfl) rfl
theorem q1652 : (Jvm.Cond.fieldLink "StreamQueriesModel" (49 : Nat) "StreamQueriesModel" "number" "[J") ∈ lw_all := lw_g (lw_at lw_m7 51 rfl) rfl
theorem q1653 : (Jvm.Cond.fieldLink "StreamQueriesModel" (302 : Nat) "StreamQueriesModel" "at" "I") ∈ lw_all := lw_g (lw_at lw_m7 52 rfl) rfl
theorem q1654 : (Jvm.Cond.fieldLink "StreamQueriesModel" (296 : Nat) "StreamQueriesModel" "fault" "I") ∈ lw_all := lw_g (lw_at lw_m7 53 rfl) rfl
theorem q1655 : (Jvm.Cond.fieldLink "StreamQueriesModel" (299 : Nat) "StreamQueriesModel" "faultPlace" "I") ∈ lw_all := lw_g (lw_at lw_m7 54 rfl) rfl
theorem q1656 : (Jvm.Cond.fieldLink "StreamQueriesModel" (292 : Nat) "StreamQueriesModel" "good" "Z") ∈ lw_all := lw_g (lw_at lw_m7 55 rfl) rfl
theorem q1657 : (Jvm.Cond.fieldLink "StreamQueriesModel" (378 : Nat) "StreamQueriesModel" "exprs" "I") ∈ lw_all := lw_g (lw_at lw_m7 56 rfl) rfl
theorem q1658 : (Jvm.Cond.fieldLink "StreamQueriesModel" (52 : Nat) "StreamQueriesModel" "kind" "[I") ∈ lw_all := lw_g (lw_at lw_m7 57 rfl) rfl
theorem q1659 : (Jvm.Cond.fieldLink "StreamQueriesModel" (55 : Nat) "StreamQueriesModel" "left" "[I") ∈ lw_all := lw_g (lw_at lw_m7 58 rfl) rfl
theorem q1660 : (Jvm.Cond.fieldLink "StreamQueriesModel" (58 : Nat) "StreamQueriesModel" "right" "[I") ∈ lw_all := lw_g (lw_at lw_m7 59 rfl) rfl
theorem q1661 : (Jvm.Cond.fieldLink "StreamQueriesModel" (61 : Nat) "StreamQueriesModel" "third" "[I") ∈ lw_all := lw_g (lw_at lw_m7 60 rfl) rfl
theorem q1662 : (Jvm.Cond.fieldLink "StreamQueriesModel" (64 : Nat) "StreamQueriesModel" "how" "[I") ∈ lw_all := lw_g (lw_at lw_m7 61 rfl) rfl
theorem q1663 : (Jvm.Cond.fieldLink "StreamQueriesModel" (67 : Nat) "StreamQueriesModel" "told" "[J") ∈ lw_all := lw_g (lw_at lw_m7 62 rfl) rfl
theorem q1664 : (Jvm.Cond.fieldLink "StreamQueriesModel" (70 : Nat) "StreamQueriesModel" "begins" "[I") ∈ lw_all := lw_g (lw_at lw_m7 63 rfl) rfl
theorem q1665 : (Jvm.Cond.fieldLink "StreamQueriesModel" (73 : Nat) "StreamQueriesModel" "word" "[I") ∈ lw_all := lw_g (lw_at lw_m7 64 rfl) rfl
theorem q1666 : (Jvm.Cond.fieldLink "StreamQueriesModel" (76 : Nat) "StreamQueriesModel" "type" "[I") ∈ lw_all := lw_g (lw_at lw_m7 65 rfl) rfl
theorem q1667 : (Jvm.Cond.fieldLink "StreamQueriesModel" (79 : Nat) "StreamQueriesModel" "nextIn" "[I") ∈ lw_all := lw_g (lw_at lw_m7 66 rfl) rfl
theorem q1668 : (Jvm.Cond.fieldLink "StreamQueriesModel" (82 : Nat) "StreamQueriesModel" "column" "[I") ∈ lw_all := lw_g (lw_at lw_m7 67 rfl) rfl
theorem q1669 : (Jvm.Cond.fieldLink "StreamQueriesModel" (477 : Nat) "StreamQueriesModel" "selects" "I") ∈ lw_all := lw_g (lw_at lw_m7 68 rfl) rfl
theorem q1670 : (Jvm.Cond.fieldLink "StreamQueriesModel" (85 : Nat) "StreamQueriesModel" "sDistinct" "[I") ∈ lw_all := lw_g (lw_at lw_m7 69 rfl) rfl
theorem q1671 : (Jvm.Cond.fieldLink "StreamQueriesModel" (88 : Nat) "StreamQueriesModel" "sItems" "[I") ∈ lw_all := lw_g (lw_at lw_m7 70 rfl) rfl
theorem q1672 : (Jvm.Cond.fieldLink "StreamQueriesModel" (91 : Nat) "StreamQueriesModel" "sSources" "[I") ∈ lw_all := lw_g (lw_at lw_m7 71 rfl) rfl
theorem q1673 : (Jvm.Cond.fieldLink "StreamQueriesModel" (94 : Nat) "StreamQueriesModel" "sWhere" "[I") ∈ lw_all := lw_g (lw_at lw_m7 72 rfl) rfl
theorem q1674 : (Jvm.Cond.fieldLink "StreamQueriesModel" (97 : Nat) "StreamQueriesModel" "sGroups" "[I") ∈ lw_all := lw_g (lw_at lw_m7 73 rfl) rfl
theorem q1675 : (Jvm.Cond.fieldLink "StreamQueriesModel" (100 : Nat) "StreamQueriesModel" "sGroupWord" "[I") ∈ lw_all := lw_g (lw_at lw_m7 74 rfl) rfl
theorem q1676 : (Jvm.Cond.fieldLink "StreamQueriesModel" (103 : Nat) "StreamQueriesModel" "sHaving" "[I") ∈ lw_all := lw_g (lw_at lw_m7 75 rfl) rfl
theorem q1677 : (Jvm.Cond.fieldLink "StreamQueriesModel" (106 : Nat) "StreamQueriesModel" "sAggregates" "[I") ∈ lw_all := lw_g (lw_at lw_m7 76 rfl) rfl
theorem q1678 : (Jvm.Cond.fieldLink "StreamQueriesModel" (109 : Nat) "StreamQueriesModel" "sFirstAggregate" "[I") ∈ lw_all := lw_g (lw_at lw_m7 77 rfl) rfl
theorem q1679 : (Jvm.Cond.fieldLink "StreamQueriesModel" (112 : Nat) "StreamQueriesModel" "item" "[I") ∈ lw_all := lw_g (lw_at lw_m7 78 rfl) rfl
theorem q1680 : (Jvm.Cond.fieldLink "StreamQueriesModel" (115 : Nat) "StreamQueriesModel" "itemName" "[I") ∈ lw_all := lw_g (lw_at lw_m7 79 rfl) rfl
theorem q1681 : (Jvm.Cond.fieldLink "StreamQueriesModel" (118 : Nat) "StreamQueriesModel" "itemType" "[I") ∈ lw_all := lw_g (lw_at lw_m7 80 rfl) rfl
theorem q1682 : (Jvm.Cond.fieldLink "StreamQueriesModel" (121 : Nat) "StreamQueriesModel" "group" "[I") ∈ lw_all := lw_g (lw_at lw_m7 81 rfl) rfl
theorem q1683 : (Jvm.Cond.fieldLink "StreamQueriesModel" (124 : Nat) "StreamQueriesModel" "groupName" "[I") ∈ lw_all := lw_g (lw_at lw_m7 82 rfl) rfl
theorem q1684 : (Jvm.Cond.fieldLink "StreamQueriesModel" (127 : Nat) "StreamQueriesModel" "oStream" "[I") ∈ lw_all := lw_g (lw_at lw_m7 83 rfl) rfl
theorem q1685 : (Jvm.Cond.fieldLink "StreamQueriesModel" (130 : Nat) "StreamQueriesModel" "oToken" "[I") ∈ lw_all := lw_g (lw_at lw_m7 84 rfl) rfl
theorem q1686 : (Jvm.Cond.fieldLink "StreamQueriesModel" (133 : Nat) "StreamQueriesModel" "oKeeps" "[Z") ∈ lw_all := lw_g (lw_at lw_m7 85 rfl) rfl
theorem q1687 : (Jvm.Cond.fieldLink "StreamQueriesModel" (136 : Nat) "StreamQueriesModel" "oKeep" "[J") ∈ lw_all := lw_g (lw_at lw_m7 86 rfl) rfl
theorem q1688 : (Jvm.Cond.fieldLink "StreamQueriesModel" (139 : Nat) "StreamQueriesModel" "oQuery" "[I") ∈ lw_all := lw_g (lw_at lw_m7 87 rfl) rfl
theorem q1689 : (Jvm.Cond.fieldLink "StreamQueriesModel" (142 : Nat) "StreamQueriesModel" "oClose" "[I") ∈ lw_all := lw_g (lw_at lw_m7 88 rfl) rfl
theorem q1690 : (Jvm.Cond.fieldLink "StreamQueriesModel" (145 : Nat) "StreamQueriesModel" "oName" "[I") ∈ lw_all := lw_g (lw_at lw_m7 89 rfl) rfl
theorem q1691 : (Jvm.Cond.fieldLink "StreamQueriesModel" (148 : Nat) "StreamQueriesModel" "oLeft" "[Z") ∈ lw_all := lw_g (lw_at lw_m7 90 rfl) rfl
theorem q1692 : (Jvm.Cond.fieldLink "StreamQueriesModel" (151 : Nat) "StreamQueriesModel" "oJoin" "[I") ∈ lw_all := lw_g (lw_at lw_m7 91 rfl) rfl
theorem q1693 : (Jvm.Cond.fieldLink "StreamQueriesModel" (154 : Nat) "StreamQueriesModel" "oOn" "[I") ∈ lw_all := lw_g (lw_at lw_m7 92 rfl) rfl
theorem q1694 : (Jvm.Cond.fieldLink "StreamQueriesModel" (453 : Nat) "StreamQueriesModel" "queries" "I") ∈ lw_all := lw_g (lw_at lw_m7 93 rfl) rfl
theorem q1695 : (Jvm.Cond.fieldLink "StreamQueriesModel" (157 : Nat) "StreamQueriesModel" "qSelects" "[I") ∈ lw_all := lw_g (lw_at lw_m7 94 rfl) rfl
theorem q1696 : (Jvm.Cond.fieldLink "StreamQueriesModel" (160 : Nat) "StreamQueriesModel" "qSelect" "[I") ∈ lw_all := lw_g (lw_at lw_m7 95 rfl) rfl
theorem q1697 : (Jvm.Cond.fieldLink "StreamQueriesModel" (163 : Nat) "StreamQueriesModel" "qSet" "[I") ∈ lw_all := lw_g (lw_at lw_m7 96 rfl) rfl
theorem q1698 : (Jvm.Cond.fieldLink "StreamQueriesModel" (166 : Nat) "StreamQueriesModel" "qSetWord" "[I") ∈ lw_all := lw_g (lw_at lw_m7 97 rfl) rfl
theorem q1699 : (Jvm.Cond.fieldLink "StreamQueriesModel" (169 : Nat) "StreamQueriesModel" "qOrders" "[I") ∈ lw_all := lw_g (lw_at lw_m7 98 rfl) rfl
theorem q1700 : (Jvm.Cond.fieldLink "StreamQueriesModel" (172 : Nat) "StreamQueriesModel" "qOrderWord" "[I") ∈ lw_all := lw_g (lw_at lw_m7 99 rfl) rfl
theorem q1701 : (Jvm.Cond.fieldLink "StreamQueriesModel" (175 : Nat) "StreamQueriesModel" "order" "[I") ∈ lw_all := lw_g (lw_at lw_m7 100 rfl) rfl
theorem q1702 : (Jvm.Cond.fieldLink "StreamQueriesModel" (178 : Nat) "StreamQueriesModel" "orderDown" "[Z") ∈ lw_all := lw_g (lw_at lw_m7 101 rfl) rfl
theorem q1703 : (Jvm.Cond.fieldLink "StreamQueriesModel" (181 : Nat) "StreamQueriesModel" "qLimit" "[I") ∈ lw_all := lw_g (lw_at lw_m7 102 rfl) rfl
theorem q1704 : (Jvm.Cond.fieldLink "StreamQueriesModel" (503 : Nat) "StreamQueriesModel" "names" "I") ∈ lw_all := lw_g (lw_at lw_m7 103 rfl) rfl
theorem q1705 : (Jvm.Cond.fieldLink "StreamQueriesModel" (347 : Nat) "StreamQueriesModel" "nest" "I") ∈ lw_all := lw_g (lw_at lw_m7 104 rfl) rfl
theorem q1706 : (Jvm.Cond.fieldLink "StreamQueriesModel" (447 : Nat) "StreamQueriesModel" "select" "I") ∈ lw_all := lw_g (lw_at lw_m7 105 rfl) rfl
theorem q1707 : (Jvm.Cond.fieldLink "StreamQueriesModel" (358 : Nat) "StreamQueriesModel" "mayAggregate" "Z") ∈ lw_all := lw_g (lw_at lw_m7 106 rfl) rfl
theorem q1708 : (Jvm.Cond.fieldLink "StreamQueriesModel" (361 : Nat) "StreamQueriesModel" "inAggregate" "Z") ∈ lw_all := lw_g (lw_at lw_m7 107 rfl) rfl
theorem q1709 : (Jvm.Cond.fieldLink "StreamQueriesModel" (384 : Nat) "StreamQueriesModel" "startPlace" "I") ∈ lw_all := lw_g (lw_at lw_m7 108 rfl) rfl
theorem q1710 : (Jvm.Cond.fieldLink "StreamQueriesModel" (552 : Nat) "StreamQueriesModel" "unbounded" "Z") ∈ lw_all := lw_g (lw_at lw_m7 109 rfl) rfl
theorem q1711 : (Jvm.Cond.fieldLink "StreamQueriesModel" (512 : Nat) "StreamQueriesModel" "scopeKind" "I") ∈ lw_all := lw_g (lw_at lw_m7 110 rfl) rfl
theorem q1712 : (Jvm.Cond.fieldLink "StreamQueriesModel" (518 : Nat) "StreamQueriesModel" "scopeSelect" "I") ∈ lw_all := lw_g (lw_at lw_m7 111 rfl) rfl
theorem q1713 : (Jvm.Cond.fieldLink "StreamQueriesModel" (515 : Nat) "StreamQueriesModel" "scopeSources" "I") ∈ lw_all := lw_g (lw_at lw_m7 112 rfl) rfl
theorem q1714 : (Jvm.Cond.fieldLink "StreamQueriesModel" (184 : Nat) "StreamQueriesModel" "oOffset" "[I") ∈ lw_all := lw_g (lw_at lw_m7 113 rfl) rfl
theorem q1715 : (Jvm.Cond.fieldLink "StreamQueriesModel" (187 : Nat) "StreamQueriesModel" "groupType" "[I") ∈ lw_all := lw_g (lw_at lw_m7 114 rfl) rfl
theorem q1716 : (Jvm.Cond.fieldLink "StreamQueriesModel" (584 : Nat) "StreamQueriesModel" "hasQuery" "Z") ∈ lw_all := lw_g (lw_at lw_m7 115 rfl) rfl
theorem q1717 : (Jvm.Cond.fieldLink "StreamQueriesModel" (581 : Nat) "StreamQueriesModel" "lastFault" "I") ∈ lw_all := lw_g (lw_at lw_m7 116 rfl) rfl
theorem q1718 : (Jvm.Cond.fieldLink "StreamQueriesModel" (190 : Nat) "StreamQueriesModel" "goodText" "[B") ∈ lw_all := lw_g (lw_at lw_m7 117 rfl) rfl
theorem q1719 : (Jvm.Cond.fieldLink "StreamQueriesModel" (587 : Nat) "StreamQueriesModel" "goodSize" "I") ∈ lw_all := lw_g (lw_at lw_m7 118 rfl) rfl
theorem q1720 : (Jvm.Cond.fieldLink "StreamQueriesModel" (194 : Nat) "StreamQueriesModel" "cell" "[J") ∈ lw_all := lw_g (lw_at lw_m7 119 rfl) rfl
theorem q1721 : (Jvm.Cond.fieldLink "StreamQueriesModel" (197 : Nat) "StreamQueriesModel" "none" "[Z") ∈ lw_all := lw_g (lw_at lw_m7 120 rfl) rfl
theorem q1722 : (Jvm.Cond.fieldLink "StreamQueriesModel" (593 : Nat) "StreamQueriesModel" "used" "I") ∈ lw_all := lw_g (lw_at lw_m7 121 rfl) rfl
theorem q1723 : (Jvm.Cond.fieldLink "StreamQueriesModel" (200 : Nat) "StreamQueriesModel" "relBase" "[I") ∈ lw_all := lw_g (lw_at lw_m7 122 rfl) rfl
theorem q1724 : (Jvm.Cond.fieldLink "StreamQueriesModel" (203 : Nat) "StreamQueriesModel" "relRows" "[I") ∈ lw_all := lw_g (lw_at lw_m7 123 rfl) rfl
theorem q1725 : (Jvm.Cond.fieldLink "StreamQueriesModel" (206 : Nat) "StreamQueriesModel" "relColumns" "[I") ∈ lw_all := lw_g (lw_at lw_m7 124 rfl) rfl
theorem q1726 : (Jvm.Cond.fieldLink "StreamQueriesModel" (590 : Nat) "StreamQueriesModel" "relations" "I") ∈ lw_all := lw_g (lw_at lw_m7 125 rfl) rfl
theorem q1727 : (Jvm.Cond.fieldLink "StreamQueriesModel" (604 : Nat) "StreamQueriesModel" "isNone" "Z") ∈ lw_all := lw_g (lw_at lw_m7 126 rfl) rfl
theorem q1728 : (Jvm.Cond.fieldLink "StreamQueriesModel" (621 : Nat) "StreamQueriesModel" "rowAtHand" "I") ∈ lw_all := lw_g (lw_at lw_m7 127 rfl) rfl
theorem q1729 : (Jvm.Cond.fieldLink "StreamQueriesModel" (618 : Nat) "StreamQueriesModel" "groupRow" "I") ∈ lw_all := lw_g (lw_at lw_m7 128 rfl) rfl
theorem q1730 : (Jvm.Cond.fieldLink "StreamQueriesModel" (647 : Nat) "StreamQueriesModel" "groupRel" "I") ∈ lw_all := lw_g (lw_at lw_m7 129 rfl) rfl
theorem q1731 : (Jvm.Cond.fieldLink "StreamQueriesModel" (650 : Nat) "StreamQueriesModel" "groupOf" "I") ∈ lw_all := lw_g (lw_at lw_m7 130 rfl) rfl
theorem q1732 : (Jvm.Cond.fieldLink "StreamQueriesModel" (615 : Nat) "StreamQueriesModel" "inGroup" "Z") ∈ lw_all := lw_g (lw_at lw_m7 131 rfl) rfl
theorem q1733 : (Jvm.Cond.fieldLink "StreamQueriesModel" (209 : Nat) "StreamQueriesModel" "memberOf" "[I") ∈ lw_all := lw_g (lw_at lw_m7 132 rfl) rfl
theorem q1734 : (Jvm.Cond.fieldLink "StreamQueriesModel" (212 : Nat) "StreamQueriesModel" "taken" "[Z") ∈ lw_all := lw_g (lw_at lw_m7 133 rfl) rfl
theorem q1735 : (Jvm.Cond.fieldLink "StreamQueriesModel" (724 : Nat) "StreamQueriesModel" "answerRows" "I") ∈ lw_all := lw_g (lw_at lw_m7 134 rfl) rfl
theorem q1736 : (Jvm.Cond.fieldLink "StreamQueriesModel" (719 : Nat) "StreamQueriesModel" "answerColumns" "I") ∈ lw_all := lw_g (lw_at lw_m7 135 rfl) rfl
theorem q1737 : (Jvm.Cond.fieldLink "StreamQueriesModel" (215 : Nat) "StreamQueriesModel" "answer" "[J") ∈ lw_all := lw_g (lw_at lw_m7 136 rfl) rfl
theorem q1738 : (Jvm.Cond.fieldLink "StreamQueriesModel" (218 : Nat) "StreamQueriesModel" "answerNone" "[Z") ∈ lw_all := lw_g (lw_at lw_m7 137 rfl) rfl
theorem q1739 : (Jvm.Cond.fieldLink "StreamQueriesModel" (713 : Nat) "StreamQueriesModel" "sortedRows" "I") ∈ lw_all := lw_g (lw_at lw_m7 138 rfl) rfl
theorem q1740 : (Jvm.Cond.fieldLink "StreamQueriesModel" (221 : Nat) "StreamQueriesModel" "sorted" "[J") ∈ lw_all := lw_g (lw_at lw_m7 139 rfl) rfl
theorem q1741 : (Jvm.Cond.fieldLink "StreamQueriesModel" (224 : Nat) "StreamQueriesModel" "sortedNone" "[Z") ∈ lw_all := lw_g (lw_at lw_m7 140 rfl) rfl
theorem q1742 : (Jvm.Cond.fieldLink "StreamQueriesModel" (716 : Nat) "StreamQueriesModel" "oldRows" "I") ∈ lw_all := lw_g (lw_at lw_m7 141 rfl) rfl
theorem q1743 : (Jvm.Cond.fieldLink "StreamQueriesModel" (227 : Nat) "StreamQueriesModel" "old" "[J") ∈ lw_all := lw_g (lw_at lw_m7 142 rfl) rfl
theorem q1744 : (Jvm.Cond.fieldLink "StreamQueriesModel" (230 : Nat) "StreamQueriesModel" "oldNone" "[Z") ∈ lw_all := lw_g (lw_at lw_m7 143 rfl) rfl
theorem q1745 : (Jvm.Cond.fieldLink "StreamQueriesModel" (271 : Nat) "StreamQueriesModel" "changeCount" "I") ∈ lw_all := lw_g (lw_at lw_m7 144 rfl) rfl
theorem q1746 : (Jvm.Cond.fieldLink "StreamQueriesModel" (233 : Nat) "StreamQueriesModel" "changeBy" "[I") ∈ lw_all := lw_g (lw_at lw_m7 145 rfl) rfl
theorem q1747 : (Jvm.Cond.fieldLink "StreamQueriesModel" (236 : Nat) "StreamQueriesModel" "changeValue" "[J") ∈ lw_all := lw_g (lw_at lw_m7 146 rfl) rfl
theorem q1748 : (Jvm.Cond.fieldLink "StreamQueriesModel" (239 : Nat) "StreamQueriesModel" "changeNone" "[Z") ∈ lw_all := lw_g (lw_at lw_m7 147 rfl) rfl
theorem q1749 : (Jvm.Cond.fieldLink "StreamQueriesModel" (242 : Nat) "StreamQueriesModel" "rank" "[I") ∈ lw_all := lw_g (lw_at lw_m7 148 rfl) rfl
theorem q1750 : (Jvm.Cond.laysFinal "StreamQueriesModel" "StreamQueriesModel" "tape" "[B") ∈ lw_all := lw_g (lw_at lw_m7 149 rfl) rfl
theorem q1751 : (Jvm.Cond.soleField "StreamQueriesModel" "tape") ∈ lw_all := lw_g (lw_at lw_m7 150 rfl) rfl
theorem q1752 : (Jvm.Cond.lays "StreamQueriesModel" "StreamQueriesModel" "tapeSize" "I") ∈ lw_all := lw_g (lw_at lw_m7 151 rfl) rfl
theorem q1753 : (Jvm.Cond.soleField "StreamQueriesModel" "tapeSize") ∈ lw_all := lw_g (lw_at lw_m7 152 rfl) rfl
theorem q1754 : (Jvm.Cond.laysFinal "StreamQueriesModel" "StreamQueriesModel" "text" "[B") ∈ lw_all := lw_g (lw_at lw_m7 153 rfl) rfl
theorem q1755 : (Jvm.Cond.soleField "StreamQueriesModel" "text") ∈ lw_all := lw_g (lw_at lw_m7 154 rfl) rfl
theorem q1756 : (Jvm.Cond.lays "StreamQueriesModel" "StreamQueriesModel" "textSize" "I") ∈ lw_all := lw_g (lw_at lw_m7 155 rfl) rfl
theorem q1757 : (Jvm.Cond.soleField "StreamQueriesModel" "textSize") ∈ lw_all := lw_g (lw_at lw_m7 156 rfl) rfl
theorem q1758 : (Jvm.Cond.lays "StreamQueriesModel" "StreamQueriesModel" "streams" "I") ∈ lw_all := lw_g (lw_at lw_m7 157 rfl) rfl
theorem q1759 : (Jvm.Cond.soleField "StreamQueriesModel" "streams") ∈ lw_all := lw_g (lw_at lw_m7 158 rfl) rfl
theorem q1760 : (Jvm.Cond.laysFinal "StreamQueriesModel" "StreamQueriesModel" "columns" "[I") ∈ lw_all := lw_g (lw_at lw_m7 159 rfl) rfl
theorem q1761 : (Jvm.Cond.soleField "StreamQueriesModel" "columns") ∈ lw_all := lw_g (lw_at lw_m7 160 rfl) rfl
theorem q1762 : (Jvm.Cond.laysFinal "StreamQueriesModel" "StreamQueriesModel" "rowThere" "[Z") ∈ lw_all := lw_g (lw_at lw_m7 161 rfl) rfl
theorem q1763 : (Jvm.Cond.soleField "StreamQueriesModel" "rowThere") ∈ lw_all := lw_g (lw_at lw_m7 162 rfl) rfl
theorem q1764 : (Jvm.Cond.laysFinal "StreamQueriesModel" "StreamQueriesModel" "rowTime" "[J") ∈ lw_all := lw_g (lw_at lw_m7 163 rfl) rfl
theorem q1765 : (Jvm.Cond.soleField "StreamQueriesModel" "rowTime") ∈ lw_all := lw_g (lw_at lw_m7 164 rfl) rfl
theorem q1766 : (Jvm.Cond.laysFinal "StreamQueriesModel" "StreamQueriesModel" "rowValue" "[J") ∈ lw_all := lw_g (lw_at lw_m7 165 rfl) rfl
theorem q1767 : (Jvm.Cond.soleField "StreamQueriesModel" "rowValue") ∈ lw_all := lw_g (lw_at lw_m7 166 rfl) rfl
theorem q1768 : (Jvm.Cond.laysFinal "StreamQueriesModel" "StreamQueriesModel" "rowNull" "[Z") ∈ lw_all := lw_g (lw_at lw_m7 167 rfl) rfl
theorem q1769 : (Jvm.Cond.soleField "StreamQueriesModel" "rowNull") ∈ lw_all := lw_g (lw_at lw_m7 168 rfl) rfl
theorem q1770 : (Jvm.Cond.lays "StreamQueriesModel" "StreamQueriesModel" "watermark" "J") ∈ lw_all := lw_g (lw_at lw_m7 169 rfl) rfl
theorem q1771 : (Jvm.Cond.soleField "StreamQueriesModel" "watermark") ∈ lw_all := lw_g (lw_at lw_m7 170 rfl) rfl
theorem q1772 : (Jvm.Cond.lays "StreamQueriesModel" "StreamQueriesModel" "draftSize" "I") ∈ lw_all := lw_g (lw_at lw_m7 171 rfl) rfl
theorem q1773 : (Jvm.Cond.soleField "StreamQueriesModel" "draftSize") ∈ lw_all := lw_g (lw_at lw_m7 172 rfl) rfl
theorem q1774 : (Jvm.Cond.laysFinal "StreamQueriesModel" "StreamQueriesModel" "draftValue" "[J") ∈ lw_all := lw_g (lw_at lw_m7 173 rfl) rfl
theorem q1775 : (Jvm.Cond.soleField "StreamQueriesModel" "draftValue") ∈ lw_all := lw_g (lw_at lw_m7 174 rfl) rfl
theorem q1776 : (Jvm.Cond.laysFinal "StreamQueriesModel" "StreamQueriesModel" "draftNull" "[Z") ∈ lw_all := lw_g (lw_at lw_m7 175 rfl) rfl
theorem q1777 : (Jvm.Cond.soleField "StreamQueriesModel" "draftNull") ∈ lw_all := lw_g (lw_at lw_m7 176 rfl) rfl
theorem q1778 : (Jvm.Cond.laysFinal "StreamQueriesModel" "StreamQueriesModel" "sort" "[I") ∈ lw_all := lw_g (lw_at lw_m7 177 rfl) rfl
theorem q1779 : (Jvm.Cond.soleField "StreamQueriesModel" "sort") ∈ lw_all := lw_g (lw_at lw_m7 178 rfl) rfl
theorem q1780 : (Jvm.Cond.laysFinal "StreamQueriesModel" "StreamQueriesModel" "place" "[I") ∈ lw_all := lw_g (lw_at lw_m7 179 rfl) rfl
theorem q1781 : (Jvm.Cond.soleField "StreamQueriesModel" "place") ∈ lw_all := lw_g (lw_at lw_m7 180 rfl) rfl
theorem q1782 : (Jvm.Cond.laysFinal "StreamQueriesModel" "StreamQueriesModel" "length" "[I") ∈ lw_all := lw_g (lw_at lw_m7 181 rfl) rfl
theorem q1783 : (Jvm.Cond.soleField "StreamQueriesModel" "length") ∈ lw_all := lw_g (lw_at lw_m7 182 rfl) rfl
theorem q1784 : (Jvm.Cond.laysFinal "StreamQueriesModel" "StreamQueriesModel" "number" "[J") ∈ lw_all := lw_g (lw_at lw_m7 183 rfl) rfl
theorem q1785 : (Jvm.Cond.soleField "StreamQueriesModel" "number") ∈ lw_all := lw_g (lw_at lw_m7 184 rfl) rfl
theorem q1786 : (Jvm.Cond.lays "StreamQueriesModel" "StreamQueriesModel" "at" "I") ∈ lw_all := lw_g (lw_at lw_m7 185 rfl) rfl
theorem q1787 : (Jvm.Cond.soleField "StreamQueriesModel" "at") ∈ lw_all := lw_g (lw_at lw_m7 186 rfl) rfl
theorem q1788 : (Jvm.Cond.lays "StreamQueriesModel" "StreamQueriesModel" "fault" "I") ∈ lw_all := lw_g (lw_at lw_m7 187 rfl) rfl
theorem q1789 : (Jvm.Cond.soleField "StreamQueriesModel" "fault") ∈ lw_all := lw_g (lw_at lw_m7 188 rfl) rfl
theorem q1790 : (Jvm.Cond.lays "StreamQueriesModel" "StreamQueriesModel" "faultPlace" "I") ∈ lw_all := lw_g (lw_at lw_m7 189 rfl) rfl
theorem q1791 : (Jvm.Cond.soleField "StreamQueriesModel" "faultPlace") ∈ lw_all := lw_g (lw_at lw_m7 190 rfl) rfl
theorem q1792 : (Jvm.Cond.lays "StreamQueriesModel" "StreamQueriesModel" "good" "Z") ∈ lw_all := lw_g (lw_at lw_m7 191 rfl) rfl
theorem q1793 : (Jvm.Cond.soleField "StreamQueriesModel" "good") ∈ lw_all := lw_g (lw_at lw_m7 192 rfl) rfl
theorem q1794 : (Jvm.Cond.lays "StreamQueriesModel" "StreamQueriesModel" "exprs" "I") ∈ lw_all := lw_g (lw_at lw_m7 193 rfl) rfl
theorem q1795 : (Jvm.Cond.soleField "StreamQueriesModel" "exprs") ∈ lw_all := lw_g (lw_at lw_m7 194 rfl) rfl
theorem q1796 : (Jvm.Cond.laysFinal "StreamQueriesModel" "StreamQueriesModel" "kind" "[I") ∈ lw_all := lw_g (lw_at lw_m7 195 rfl) rfl
theorem q1797 : (Jvm.Cond.soleField "StreamQueriesModel" "kind") ∈ lw_all := lw_g (lw_at lw_m7 196 rfl) rfl
theorem q1798 : (Jvm.Cond.laysFinal "StreamQueriesModel" "StreamQueriesModel" "left" "[I") ∈ lw_all := lw_g (lw_at lw_m7 197 rfl) rfl
theorem q1799 : (Jvm.Cond.soleField "StreamQueriesModel" "left") ∈ lw_all := lw_g (lw_at lw_m7 198 rfl) rfl
theorem q1800 : (Jvm.Cond.laysFinal "StreamQueriesModel" "StreamQueriesModel" "right" "[I") ∈ lw_all := lw_g (lw_at lw_m7 199 rfl) rfl
theorem q1801 : (Jvm.Cond.soleField "StreamQueriesModel" "right") ∈ lw_all := lw_g (lw_at lw_m7 200 rfl) rfl
theorem q1802 : (Jvm.Cond.laysFinal "StreamQueriesModel" "StreamQueriesModel" "third" "[I") ∈ lw_all := lw_g (lw_at lw_m7 201 rfl) rfl
theorem q1803 : (Jvm.Cond.soleField "StreamQueriesModel" "third") ∈ lw_all := lw_g (lw_at lw_m7 202 rfl) rfl
theorem q1804 : (Jvm.Cond.laysFinal "StreamQueriesModel" "StreamQueriesModel" "how" "[I") ∈ lw_all := lw_g (lw_at lw_m7 203 rfl) rfl
theorem q1805 : (Jvm.Cond.soleField "StreamQueriesModel" "how") ∈ lw_all := lw_g (lw_at lw_m7 204 rfl) rfl
theorem q1806 : (Jvm.Cond.laysFinal "StreamQueriesModel" "StreamQueriesModel" "told" "[J") ∈ lw_all := lw_g (lw_at lw_m7 205 rfl) rfl
theorem q1807 : (Jvm.Cond.soleField "StreamQueriesModel" "told") ∈ lw_all := lw_g (lw_at lw_m7 206 rfl) rfl
theorem q1808 : (Jvm.Cond.laysFinal "StreamQueriesModel" "StreamQueriesModel" "begins" "[I") ∈ lw_all := lw_g (lw_at lw_m7 207 rfl) rfl
theorem q1809 : (Jvm.Cond.soleField "StreamQueriesModel" "begins") ∈ lw_all := lw_g (lw_at lw_m7 208 rfl) rfl
theorem q1810 : (Jvm.Cond.laysFinal "StreamQueriesModel" "StreamQueriesModel" "word" "[I") ∈ lw_all := lw_g (lw_at lw_m7 209 rfl) rfl
theorem q1811 : (Jvm.Cond.soleField "StreamQueriesModel" "word") ∈ lw_all := lw_g (lw_at lw_m7 210 rfl) rfl
theorem q1812 : (Jvm.Cond.laysFinal "StreamQueriesModel" "StreamQueriesModel" "type" "[I") ∈ lw_all := lw_g (lw_at lw_m7 211 rfl) rfl
theorem q1813 : (Jvm.Cond.soleField "StreamQueriesModel" "type") ∈ lw_all := lw_g (lw_at lw_m7 212 rfl) rfl
theorem q1814 : (Jvm.Cond.laysFinal "StreamQueriesModel" "StreamQueriesModel" "nextIn" "[I") ∈ lw_all := lw_g (lw_at lw_m7 213 rfl) rfl
theorem q1815 : (Jvm.Cond.soleField "StreamQueriesModel" "nextIn") ∈ lw_all := lw_g (lw_at lw_m7 214 rfl) rfl
theorem q1816 : (Jvm.Cond.laysFinal "StreamQueriesModel" "StreamQueriesModel" "column" "[I") ∈ lw_all := lw_g (lw_at lw_m7 215 rfl) rfl
theorem q1817 : (Jvm.Cond.soleField "StreamQueriesModel" "column") ∈ lw_all := lw_g (lw_at lw_m7 216 rfl) rfl
theorem q1818 : (Jvm.Cond.lays "StreamQueriesModel" "StreamQueriesModel" "selects" "I") ∈ lw_all := lw_g (lw_at lw_m7 217 rfl) rfl
theorem q1819 : (Jvm.Cond.soleField "StreamQueriesModel" "selects") ∈ lw_all := lw_g (lw_at lw_m7 218 rfl) rfl
theorem q1820 : (Jvm.Cond.laysFinal "StreamQueriesModel" "StreamQueriesModel" "sDistinct" "[I") ∈ lw_all := lw_g (lw_at lw_m7 219 rfl) rfl
theorem q1821 : (Jvm.Cond.soleField "StreamQueriesModel" "sDistinct") ∈ lw_all := lw_g (lw_at lw_m7 220 rfl) rfl
theorem q1822 : (Jvm.Cond.laysFinal "StreamQueriesModel" "StreamQueriesModel" "sItems" "[I") ∈ lw_all := lw_g (lw_at lw_m7 221 rfl) rfl
theorem q1823 : (Jvm.Cond.soleField "StreamQueriesModel" "sItems") ∈ lw_all := lw_g (lw_at lw_m7 222 rfl) rfl
theorem q1824 : (Jvm.Cond.laysFinal "StreamQueriesModel" "StreamQueriesModel" "sSources" "[I") ∈ lw_all := lw_g (lw_at lw_m7 223 rfl) rfl
theorem q1825 : (Jvm.Cond.soleField "StreamQueriesModel" "sSources") ∈ lw_all := lw_g (lw_at lw_m7 224 rfl) rfl
theorem q1826 : (Jvm.Cond.laysFinal "StreamQueriesModel" "StreamQueriesModel" "sWhere" "[I") ∈ lw_all := lw_g (lw_at lw_m7 225 rfl) rfl
theorem q1827 : (Jvm.Cond.soleField "StreamQueriesModel" "sWhere") ∈ lw_all := lw_g (lw_at lw_m7 226 rfl) rfl
theorem q1828 : (Jvm.Cond.laysFinal "StreamQueriesModel" "StreamQueriesModel" "sGroups" "[I") ∈ lw_all := lw_g (lw_at lw_m7 227 rfl) rfl
theorem q1829 : (Jvm.Cond.soleField "StreamQueriesModel" "sGroups") ∈ lw_all := lw_g (lw_at lw_m7 228 rfl) rfl
theorem q1830 : (Jvm.Cond.laysFinal "StreamQueriesModel" "StreamQueriesModel" "sGroupWord" "[I") ∈ lw_all := lw_g (lw_at lw_m7 229 rfl) rfl
theorem q1831 : (Jvm.Cond.soleField "StreamQueriesModel" "sGroupWord") ∈ lw_all := lw_g (lw_at lw_m7 230 rfl) rfl
theorem q1832 : (Jvm.Cond.laysFinal "StreamQueriesModel" "StreamQueriesModel" "sHaving" "[I") ∈ lw_all := lw_g (lw_at lw_m7 231 rfl) rfl
theorem q1833 : (Jvm.Cond.soleField "StreamQueriesModel" "sHaving") ∈ lw_all := lw_g (lw_at lw_m7 232 rfl) rfl
theorem q1834 : (Jvm.Cond.laysFinal "StreamQueriesModel" "StreamQueriesModel" "sAggregates" "[I") ∈ lw_all := lw_g (lw_at lw_m7 233 rfl) rfl
theorem q1835 : (Jvm.Cond.soleField "StreamQueriesModel" "sAggregates") ∈ lw_all := lw_g (lw_at lw_m7 234 rfl) rfl
theorem q1836 : (Jvm.Cond.laysFinal "StreamQueriesModel" "StreamQueriesModel" "sFirstAggregate" "[I") ∈ lw_all := lw_g (lw_at lw_m7 235 rfl) rfl
theorem q1837 : (Jvm.Cond.soleField "StreamQueriesModel" "sFirstAggregate") ∈ lw_all := lw_g (lw_at lw_m7 236 rfl) rfl
theorem q1838 : (Jvm.Cond.laysFinal "StreamQueriesModel" "StreamQueriesModel" "item" "[I") ∈ lw_all := lw_g (lw_at lw_m7 237 rfl) rfl
theorem q1839 : (Jvm.Cond.soleField "StreamQueriesModel" "item") ∈ lw_all := lw_g (lw_at lw_m7 238 rfl) rfl
theorem q1840 : (Jvm.Cond.laysFinal "StreamQueriesModel" "StreamQueriesModel" "itemName" "[I") ∈ lw_all := lw_g (lw_at lw_m7 239 rfl) rfl
theorem q1841 : (Jvm.Cond.soleField "StreamQueriesModel" "itemName") ∈ lw_all := lw_g (lw_at lw_m8 0 rfl) rfl
theorem q1842 : (Jvm.Cond.laysFinal "StreamQueriesModel" "StreamQueriesModel" "itemType" "[I") ∈ lw_all := lw_g (lw_at lw_m8 1 rfl) rfl
theorem q1843 : (Jvm.Cond.soleField "StreamQueriesModel" "itemType") ∈ lw_all := lw_g (lw_at lw_m8 2 rfl) rfl
theorem q1844 : (Jvm.Cond.laysFinal "StreamQueriesModel" "StreamQueriesModel" "group" "[I") ∈ lw_all := lw_g (lw_at lw_m8 3 rfl) rfl
theorem q1845 : (Jvm.Cond.soleField "StreamQueriesModel" "group") ∈ lw_all := lw_g (lw_at lw_m8 4 rfl) rfl
theorem q1846 : (Jvm.Cond.laysFinal "StreamQueriesModel" "StreamQueriesModel" "groupName" "[I") ∈ lw_all := lw_g (lw_at lw_m8 5 rfl) rfl
theorem q1847 : (Jvm.Cond.soleField "StreamQueriesModel" "groupName") ∈ lw_all := lw_g (lw_at lw_m8 6 rfl) rfl
theorem q1848 : (Jvm.Cond.laysFinal "StreamQueriesModel" "StreamQueriesModel" "oStream" "[I") ∈ lw_all := lw_g (lw_at lw_m8 7 rfl) rfl
theorem q1849 : (Jvm.Cond.soleField "StreamQueriesModel" "oStream") ∈ lw_all := lw_g (lw_at lw_m8 8 rfl) rfl
theorem q1850 : (Jvm.Cond.laysFinal "StreamQueriesModel" "StreamQueriesModel" "oToken" "[I") ∈ lw_all := lw_g (lw_at lw_m8 9 rfl) rfl
theorem q1851 : (Jvm.Cond.soleField "StreamQueriesModel" "oToken") ∈ lw_all := lw_g (lw_at lw_m8 10 rfl) rfl
theorem q1852 : (Jvm.Cond.laysFinal "StreamQueriesModel" "StreamQueriesModel" "oKeeps" "[Z") ∈ lw_all := lw_g (lw_at lw_m8 11 rfl) rfl
theorem q1853 : (Jvm.Cond.soleField "StreamQueriesModel" "oKeeps") ∈ lw_all := lw_g (lw_at lw_m8 12 rfl) rfl
theorem q1854 : (Jvm.Cond.laysFinal "StreamQueriesModel" "StreamQueriesModel" "oKeep" "[J") ∈ lw_all := lw_g (lw_at lw_m8 13 rfl) rfl
theorem q1855 : (Jvm.Cond.soleField "StreamQueriesModel" "oKeep") ∈ lw_all := lw_g (lw_at lw_m8 14 rfl) rfl
theorem q1856 : (Jvm.Cond.laysFinal "StreamQueriesModel" "StreamQueriesModel" "oQuery" "[I") ∈ lw_all := lw_g (lw_at lw_m8 15 rfl) rfl
theorem q1857 : (Jvm.Cond.soleField "StreamQueriesModel" "oQuery") ∈ lw_all := lw_g (lw_at lw_m8 16 rfl) rfl
theorem q1858 : (Jvm.Cond.laysFinal "StreamQueriesModel" "StreamQueriesModel" "oClose" "[I") ∈ lw_all := lw_g (lw_at lw_m8 17 rfl) rfl
theorem q1859 : (Jvm.Cond.soleField "StreamQueriesModel" "oClose") ∈ lw_all := lw_g (lw_at lw_m8 18 rfl) rfl
theorem q1860 : (Jvm.Cond.laysFinal "StreamQueriesModel" "StreamQueriesModel" "oName" "[I") ∈ lw_all := lw_g (lw_at lw_m8 19 rfl) rfl
theorem q1861 : (Jvm.Cond.soleField "StreamQueriesModel" "oName") ∈ lw_all := lw_g (lw_at lw_m8 20 rfl) rfl
theorem q1862 : (Jvm.Cond.laysFinal "StreamQueriesModel" "StreamQueriesModel" "oLeft" "[Z") ∈ lw_all := lw_g (lw_at lw_m8 21 rfl) rfl
theorem q1863 : (Jvm.Cond.soleField "StreamQueriesModel" "oLeft") ∈ lw_all := lw_g (lw_at lw_m8 22 rfl) rfl
theorem q1864 : (Jvm.Cond.laysFinal "StreamQueriesModel" "StreamQueriesModel" "oJoin" "[I") ∈ lw_all := lw_g (lw_at lw_m8 23 rfl) rfl
theorem q1865 : (Jvm.Cond.soleField "StreamQueriesModel" "oJoin") ∈ lw_all := lw_g (lw_at lw_m8 24 rfl) rfl
theorem q1866 : (Jvm.Cond.laysFinal "StreamQueriesModel" "StreamQueriesModel" "oOn" "[I") ∈ lw_all := lw_g (lw_at lw_m8 25 rfl) rfl
theorem q1867 : (Jvm.Cond.soleField "StreamQueriesModel" "oOn") ∈ lw_all := lw_g (lw_at lw_m8 26 rfl) rfl
theorem q1868 : (Jvm.Cond.lays "StreamQueriesModel" "StreamQueriesModel" "queries" "I") ∈ lw_all := lw_g (lw_at lw_m8 27 rfl) rfl
theorem q1869 : (Jvm.Cond.soleField "StreamQueriesModel" "queries") ∈ lw_all := lw_g (lw_at lw_m8 28 rfl) rfl
theorem q1870 : (Jvm.Cond.laysFinal "StreamQueriesModel" "StreamQueriesModel" "qSelects" "[I") ∈ lw_all := lw_g (lw_at lw_m8 29 rfl) rfl
theorem q1871 : (Jvm.Cond.soleField "StreamQueriesModel" "qSelects") ∈ lw_all := lw_g (lw_at lw_m8 30 rfl) rfl
theorem q1872 : (Jvm.Cond.laysFinal "StreamQueriesModel" "StreamQueriesModel" "qSelect" "[I") ∈ lw_all := lw_g (lw_at lw_m8 31 rfl) rfl
theorem q1873 : (Jvm.Cond.soleField "StreamQueriesModel" "qSelect") ∈ lw_all := lw_g (lw_at lw_m8 32 rfl) rfl
theorem q1874 : (Jvm.Cond.laysFinal "StreamQueriesModel" "StreamQueriesModel" "qSet" "[I") ∈ lw_all := lw_g (lw_at lw_m8 33 rfl) rfl
theorem q1875 : (Jvm.Cond.soleField "StreamQueriesModel" "qSet") ∈ lw_all := lw_g (lw_at lw_m8 34 rfl) rfl
theorem q1876 : (Jvm.Cond.laysFinal "StreamQueriesModel" "StreamQueriesModel" "qSetWord" "[I") ∈ lw_all := lw_g (lw_at lw_m8 35 rfl) rfl
theorem q1877 : (Jvm.Cond.soleField "StreamQueriesModel" "qSetWord") ∈ lw_all := lw_g (lw_at lw_m8 36 rfl) rfl
theorem q1878 : (Jvm.Cond.laysFinal "StreamQueriesModel" "StreamQueriesModel" "qOrders" "[I") ∈ lw_all := lw_g (lw_at lw_m8 37 rfl) rfl
theorem q1879 : (Jvm.Cond.soleField "StreamQueriesModel" "qOrders") ∈ lw_all := lw_g (lw_at lw_m8 38 rfl) rfl
theorem q1880 : (Jvm.Cond.laysFinal "StreamQueriesModel" "StreamQueriesModel" "qOrderWord" "[I") ∈ lw_all := lw_g (lw_at lw_m8 39 rfl) rfl
theorem q1881 : (Jvm.Cond.soleField "StreamQueriesModel" "qOrderWord") ∈ lw_all := lw_g (lw_at lw_m8 40 rfl) rfl
theorem q1882 : (Jvm.Cond.laysFinal "StreamQueriesModel" "StreamQueriesModel" "order" "[I") ∈ lw_all := lw_g (lw_at lw_m8 41 rfl) rfl
theorem q1883 : (Jvm.Cond.soleField "StreamQueriesModel" "order") ∈ lw_all := lw_g (lw_at lw_m8 42 rfl) rfl
theorem q1884 : (Jvm.Cond.laysFinal "StreamQueriesModel" "StreamQueriesModel" "orderDown" "[Z") ∈ lw_all := lw_g (lw_at lw_m8 43 rfl) rfl
theorem q1885 : (Jvm.Cond.soleField "StreamQueriesModel" "orderDown") ∈ lw_all := lw_g (lw_at lw_m8 44 rfl) rfl
theorem q1886 : (Jvm.Cond.laysFinal "StreamQueriesModel" "StreamQueriesModel" "qLimit" "[I") ∈ lw_all := lw_g (lw_at lw_m8 45 rfl) rfl
theorem q1887 : (Jvm.Cond.soleField "StreamQueriesModel" "qLimit") ∈ lw_all := lw_g (lw_at lw_m8 46 rfl) rfl
theorem q1888 : (Jvm.Cond.lays "StreamQueriesModel" "StreamQueriesModel" "names" "I") ∈ lw_all := lw_g (lw_at lw_m8 47 rfl) rfl
theorem q1889 : (Jvm.Cond.soleField "StreamQueriesModel" "names") ∈ lw_all := lw_g (lw_at lw_m8 48 rfl) rfl
theorem q1890 : (Jvm.Cond.lays "StreamQueriesModel" "StreamQueriesModel" "nest" "I") ∈ lw_all := lw_g (lw_at lw_m8 49 rfl) rfl
theorem q1891 : (Jvm.Cond.soleField "StreamQueriesModel" "nest") ∈ lw_all := lw_g (lw_at lw_m8 50 rfl) rfl
theorem q1892 : (Jvm.Cond.lays "StreamQueriesModel" "StreamQueriesModel" "select" "I") ∈ lw_all := lw_g (lw_at lw_m8 51 rfl) rfl
theorem q1893 : (Jvm.Cond.soleField "StreamQueriesModel" "select") ∈ lw_all := lw_g (lw_at lw_m8 52 rfl) rfl
theorem q1894 : (Jvm.Cond.lays "StreamQueriesModel" "StreamQueriesModel" "mayAggregate" "Z") ∈ lw_all := lw_g (lw_at lw_m8 53 rfl) rfl
theorem q1895 : (Jvm.Cond.soleField "StreamQueriesModel" "mayAggregate") ∈ lw_all := lw_g (lw_at lw_m8 54 rfl) rfl
theorem q1896 : (Jvm.Cond.lays "StreamQueriesModel" "StreamQueriesModel" "inAggregate" "Z") ∈ lw_all := lw_g (lw_at lw_m8 55 rfl) rfl
theorem q1897 : (Jvm.Cond.soleField "StreamQueriesModel" "inAggregate") ∈ lw_all := lw_g (lw_at lw_m8 56 rfl) rfl
theorem q1898 : (Jvm.Cond.lays "StreamQueriesModel" "StreamQueriesModel" "startPlace" "I") ∈ lw_all := lw_g (lw_at lw_m8 57 rfl) rfl
theorem q1899 : (Jvm.Cond.soleField "StreamQueriesModel" "startPlace") ∈ lw_all := lw_g (lw_at lw_m8 58 rfl) rfl
theorem q1900 : (Jvm.Cond.lays "StreamQueriesModel" "StreamQueriesModel" "unbounded" "Z") ∈ lw_all := lw_g (lw_at lw_m8 59 rfl) rfl
theorem q1901 : (Jvm.Cond.soleField "StreamQueriesModel" "unbounded") ∈ lw_all := lw_g (lw_at lw_m8 60 rfl) rfl
theorem q1902 : (Jvm.Cond.lays "StreamQueriesModel" "StreamQueriesModel" "scopeKind" "I") ∈ lw_all := lw_g (lw_at lw_m8 61 rfl) rfl
theorem q1903 : (Jvm.Cond.soleField "StreamQueriesModel" "scopeKind") ∈ lw_all := lw_g (lw_at lw_m8 62 rfl) rfl
theorem q1904 : (Jvm.Cond.lays "StreamQueriesModel" "StreamQueriesModel" "scopeSelect" "I") ∈ lw_all := lw_g (lw_at lw_m8 63 rfl) rfl
theorem q1905 : (Jvm.Cond.soleField "StreamQueriesModel" "scopeSelect") ∈ lw_all := lw_g (lw_at lw_m8 64 rfl) rfl
theorem q1906 : (Jvm.Cond.lays "StreamQueriesModel" "StreamQueriesModel" "scopeSources" "I") ∈ lw_all := lw_g (lw_at lw_m8 65 rfl) rfl
theorem q1907 : (Jvm.Cond.soleField "StreamQueriesModel" "scopeSources") ∈ lw_all := lw_g (lw_at lw_m8 66 rfl) rfl
theorem q1908 : (Jvm.Cond.laysFinal "StreamQueriesModel" "StreamQueriesModel" "oOffset" "[I") ∈ lw_all := lw_g (lw_at lw_m8 67 rfl) rfl
theorem q1909 : (Jvm.Cond.soleField "StreamQueriesModel" "oOffset") ∈ lw_all := lw_g (lw_at lw_m8 68 rfl) rfl
theorem q1910 : (Jvm.Cond.laysFinal "StreamQueriesModel" "StreamQueriesModel" "groupType" "[I") ∈ lw_all := lw_g (lw_at lw_m8 69 rfl) rfl
theorem q1911 : (Jvm.Cond.soleField "StreamQueriesModel" "groupType") ∈ lw_all := lw_g (lw_at lw_m8 70 rfl) rfl
theorem q1912 : (Jvm.Cond.lays "StreamQueriesModel" "StreamQueriesModel" "hasQuery" "Z") ∈ lw_all := lw_g (lw_at lw_m8 71 rfl) rfl
theorem q1913 : (Jvm.Cond.soleField "StreamQueriesModel" "hasQuery") ∈ lw_all := lw_g (lw_at lw_m8 72 rfl) rfl
theorem q1914 : (Jvm.Cond.lays "StreamQueriesModel" "StreamQueriesModel" "lastFault" "I") ∈ lw_all := lw_g (lw_at lw_m8 73 rfl) rfl
theorem q1915 : (Jvm.Cond.soleField "StreamQueriesModel" "lastFault") ∈ lw_all := lw_g (lw_at lw_m8 74 rfl) rfl
theorem q1916 : (Jvm.Cond.laysFinal "StreamQueriesModel" "StreamQueriesModel" "goodText" "[B") ∈ lw_all := lw_g (lw_at lw_m8 75 rfl) rfl
theorem q1917 : (Jvm.Cond.soleField "StreamQueriesModel" "goodText") ∈ lw_all := lw_g (lw_at lw_m8 76 rfl) rfl
theorem q1918 : (Jvm.Cond.lays "StreamQueriesModel" "StreamQueriesModel" "goodSize" "I") ∈ lw_all := lw_g (lw_at lw_m8 77 rfl) rfl
theorem q1919 : (Jvm.Cond.soleField "StreamQueriesModel" "goodSize") ∈ lw_all := lw_g (lw_at lw_m8 78 rfl) rfl
theorem q1920 : (Jvm.Cond.laysFinal "StreamQueriesModel" "StreamQueriesModel" "cell" "[J") ∈ lw_all := lw_g (lw_at lw_m8 79 rfl) rfl
theorem q1921 : (Jvm.Cond.soleField "StreamQueriesModel" "cell") ∈ lw_all := lw_g (lw_at lw_m8 80 rfl) rfl
theorem q1922 : (Jvm.Cond.laysFinal "StreamQueriesModel" "StreamQueriesModel" "none" "[Z") ∈ lw_all := lw_g (lw_at lw_m8 81 rfl) rfl
theorem q1923 : (Jvm.Cond.soleField "StreamQueriesModel" "none") ∈ lw_all := lw_g (lw_at lw_m8 82 rfl) rfl
theorem q1924 : (Jvm.Cond.lays "StreamQueriesModel" "StreamQueriesModel" "used" "I") ∈ lw_all := lw_g (lw_at lw_m8 83 rfl) rfl
theorem q1925 : (Jvm.Cond.soleField "StreamQueriesModel" "used") ∈ lw_all := lw_g (lw_at lw_m8 84 rfl) rfl
theorem q1926 : (Jvm.Cond.laysFinal "StreamQueriesModel" "StreamQueriesModel" "relBase" "[I") ∈ lw_all := lw_g (lw_at lw_m8 85 rfl) rfl
theorem q1927 : (Jvm.Cond.soleField "StreamQueriesModel" "relBase") ∈ lw_all := lw_g (lw_at lw_m8 86 rfl) rfl
theorem q1928 : (Jvm.Cond.laysFinal "StreamQueriesModel" "StreamQueriesModel" "relRows" "[I") ∈ lw_all := lw_g (lw_at lw_m8 87 rfl) rfl
theorem q1929 : (Jvm.Cond.soleField "StreamQueriesModel" "relRows") ∈ lw_all := lw_g (lw_at lw_m8 88 rfl) rfl
theorem q1930 : (Jvm.Cond.laysFinal "StreamQueriesModel" "StreamQueriesModel" "relColumns" "[I") ∈ lw_all := lw_g (lw_at lw_m8 89 rfl) rfl
theorem q1931 : (Jvm.Cond.soleField "StreamQueriesModel" "relColumns") ∈ lw_all := lw_g (lw_at lw_m8 90 rfl) rfl
theorem q1932 : (Jvm.Cond.lays "StreamQueriesModel" "StreamQueriesModel" "relations" "I") ∈ lw_all := lw_g (lw_at lw_m8 91 rfl) rfl
theorem q1933 : (Jvm.Cond.soleField "StreamQueriesModel" "relations") ∈ lw_all := lw_g (lw_at lw_m8 92 rfl) rfl
theorem q1934 : (Jvm.Cond.lays "StreamQueriesModel" "StreamQueriesModel" "isNone" "Z") ∈ lw_all := lw_g (lw_at lw_m8 93 rfl) rfl
theorem q1935 : (Jvm.Cond.soleField "StreamQueriesModel" "isNone") ∈ lw_all := lw_g (lw_at lw_m8 94 rfl) rfl
theorem q1936 : (Jvm.Cond.lays "StreamQueriesModel" "StreamQueriesModel" "rowAtHand" "I") ∈ lw_all := lw_g (lw_at lw_m8 95 rfl) rfl
theorem q1937 : (Jvm.Cond.soleField "StreamQueriesModel" "rowAtHand") ∈ lw_all := lw_g (lw_at lw_m8 96 rfl) rfl
theorem q1938 : (Jvm.Cond.lays "StreamQueriesModel" "StreamQueriesModel" "groupRow" "I") ∈ lw_all := lw_g (lw_at lw_m8 97 rfl) rfl
theorem q1939 : (Jvm.Cond.soleField "StreamQueriesModel" "groupRow") ∈ lw_all := lw_g (lw_at lw_m8 98 rfl) rfl
theorem q1940 : (Jvm.Cond.lays "StreamQueriesModel" "StreamQueriesModel" "groupRel" "I") ∈ lw_all := lw_g (lw_at lw_m8 99 rfl) rfl
theorem q1941 : (Jvm.Cond.soleField "StreamQueriesModel" "groupRel") ∈ lw_all := lw_g (lw_at lw_m8 100 rfl) rfl
theorem q1942 : (Jvm.Cond.lays "StreamQueriesModel" "StreamQueriesModel" "groupOf" "I") ∈ lw_all := lw_g (lw_at lw_m8 101 rfl) rfl
theorem q1943 : (Jvm.Cond.soleField "StreamQueriesModel" "groupOf") ∈ lw_all := lw_g (lw_at lw_m8 102 rfl) rfl
theorem q1944 : (Jvm.Cond.lays "StreamQueriesModel" "StreamQueriesModel" "inGroup" "Z") ∈ lw_all := lw_g (lw_at lw_m8 103 rfl) rfl
theorem q1945 : (Jvm.Cond.soleField "StreamQueriesModel" "inGroup") ∈ lw_all := lw_g (lw_at lw_m8 104 rfl) rfl
theorem q1946 : (Jvm.Cond.laysFinal "StreamQueriesModel" "StreamQueriesModel" "memberOf" "[I") ∈ lw_all := lw_g (lw_at lw_m8 105 rfl) rfl
theorem q1947 : (Jvm.Cond.soleField "StreamQueriesModel" "memberOf") ∈ lw_all := lw_g (lw_at lw_m8 106 rfl) rfl
theorem q1948 : (Jvm.Cond.laysFinal "StreamQueriesModel" "StreamQueriesModel" "taken" "[Z") ∈ lw_all := lw_g (lw_at lw_m8 107 rfl) rfl
theorem q1949 : (Jvm.Cond.soleField "StreamQueriesModel" "taken") ∈ lw_all := lw_g (lw_at lw_m8 108 rfl) rfl
theorem q1950 : (Jvm.Cond.lays "StreamQueriesModel" "StreamQueriesModel" "answerRows" "I") ∈ lw_all := lw_g (lw_at lw_m8 109 rfl) rfl
theorem q1951 : (Jvm.Cond.soleField "StreamQueriesModel" "answerRows") ∈ lw_all := lw_g (lw_at lw_m8 110 rfl) rfl
theorem q1952 : (Jvm.Cond.lays "StreamQueriesModel" "StreamQueriesModel" "answerColumns" "I") ∈ lw_all := lw_g (lw_at lw_m8 111 rfl) rfl
theorem q1953 : (Jvm.Cond.soleField "StreamQueriesModel" "answerColumns") ∈ lw_all := lw_g (lw_at lw_m8 112 rfl) rfl
theorem q1954 : (Jvm.Cond.laysFinal "StreamQueriesModel" "StreamQueriesModel" "answer" "[J") ∈ lw_all := lw_g (lw_at lw_m8 113 rfl) rfl
theorem q1955 : (Jvm.Cond.soleField "StreamQueriesModel" "answer") ∈ lw_all := lw_g (lw_at lw_m8 114 rfl) rfl
theorem q1956 : (Jvm.Cond.laysFinal "StreamQueriesModel" "StreamQueriesModel" "answerNone" "[Z") ∈ lw_all := lw_g (lw_at lw_m8 115 rfl) rfl
theorem q1957 : (Jvm.Cond.soleField "StreamQueriesModel" "answerNone") ∈ lw_all := lw_g (lw_at lw_m8 116 rfl) rfl
theorem q1958 : (Jvm.Cond.lays "StreamQueriesModel" "StreamQueriesModel" "sortedRows" "I") ∈ lw_all := lw_g (lw_at lw_m8 117 rfl) rfl
theorem q1959 : (Jvm.Cond.soleField "StreamQueriesModel" "sortedRows") ∈ lw_all := lw_g (lw_at lw_m8 118 rfl) rfl
theorem q1960 : (Jvm.Cond.laysFinal "StreamQueriesModel" "StreamQueriesModel" "sorted" "[J") ∈ lw_all := lw_g (lw_at lw_m8 119 rfl) rfl
theorem q1961 : (Jvm.Cond.soleField "StreamQueriesModel" "sorted") ∈ lw_all := lw_g (lw_at lw_m8 120 rfl) rfl
theorem q1962 : (Jvm.Cond.laysFinal "StreamQueriesModel" "StreamQueriesModel" "sortedNone" "[Z") ∈ lw_all := lw_g (lw_at lw_m8 121 rfl) rfl
theorem q1963 : (Jvm.Cond.soleField "StreamQueriesModel" "sortedNone") ∈ lw_all := lw_g (lw_at lw_m8 122 rfl) rfl
theorem q1964 : (Jvm.Cond.lays "StreamQueriesModel" "StreamQueriesModel" "oldRows" "I") ∈ lw_all := lw_g (lw_at lw_m8 123 rfl) rfl
theorem q1965 : (Jvm.Cond.soleField "StreamQueriesModel" "oldRows") ∈ lw_all := lw_g (lw_at lw_m8 124 rfl) rfl
theorem q1966 : (Jvm.Cond.laysFinal "StreamQueriesModel" "StreamQueriesModel" "old" "[J") ∈ lw_all := lw_g (lw_at lw_m8 125 rfl) rfl
theorem q1967 : (Jvm.Cond.soleField "StreamQueriesModel" "old") ∈ lw_all := lw_g (lw_at lw_m8 126 rfl) rfl
theorem q1968 : (Jvm.Cond.laysFinal "StreamQueriesModel" "StreamQueriesModel" "oldNone" "[Z") ∈ lw_all := lw_g (lw_at lw_m8 127 rfl) rfl
theorem q1969 : (Jvm.Cond.soleField "StreamQueriesModel" "oldNone") ∈ lw_all := lw_g (lw_at lw_m8 128 rfl) rfl
theorem q1970 : (Jvm.Cond.lays "StreamQueriesModel" "StreamQueriesModel" "changeCount" "I") ∈ lw_all := lw_g (lw_at lw_m8 129 rfl) rfl
theorem q1971 : (Jvm.Cond.soleField "StreamQueriesModel" "changeCount") ∈ lw_all := lw_g (lw_at lw_m8 130 rfl) rfl
theorem q1972 : (Jvm.Cond.laysFinal "StreamQueriesModel" "StreamQueriesModel" "changeBy" "[I") ∈ lw_all := lw_g (lw_at lw_m8 131 rfl) rfl
theorem q1973 : (Jvm.Cond.soleField "StreamQueriesModel" "changeBy") ∈ lw_all := lw_g (lw_at lw_m8 132 rfl) rfl
theorem q1974 : (Jvm.Cond.laysFinal "StreamQueriesModel" "StreamQueriesModel" "changeValue" "[J") ∈ lw_all := lw_g (lw_at lw_m8 133 rfl) rfl
theorem q1975 : (Jvm.Cond.soleField "StreamQueriesModel" "changeValue") ∈ lw_all := lw_g (lw_at lw_m8 134 rfl) rfl
theorem q1976 : (Jvm.Cond.laysFinal "StreamQueriesModel" "StreamQueriesModel" "changeNone" "[Z") ∈ lw_all := lw_g (lw_at lw_m8 135 rfl) rfl
theorem q1977 : (Jvm.Cond.soleField "StreamQueriesModel" "changeNone") ∈ lw_all := lw_g (lw_at lw_m8 136 rfl) rfl
theorem q1978 : (Jvm.Cond.laysFinal "StreamQueriesModel" "StreamQueriesModel" "rank" "[I") ∈ lw_all := lw_g (lw_at lw_m8 137 rfl) rfl
theorem q1979 : (Jvm.Cond.soleField "StreamQueriesModel" "rank") ∈ lw_all := lw_g (lw_at lw_m8 138 rfl) rfl
theorem q1980 : (Jvm.Cond.superclass "StreamQueriesModel" "java/lang/Object") ∈ lw_all := lw_g (lw_at lw_m8 139 rfl) rfl
theorem q1982 : (Jvm.Cond.instanceMethod ({ cls := "StreamQueriesModel", name := "feed", desc := "(IIIII)I" } : Jvm.MethodName)) ∈ lw_all := lw_g (lw_at lw_m8 141 rfl) rfl
theorem q1983 : (Jvm.Cond.selects "StreamQueriesModel" ({ cls := "StreamQueriesModel", name := "feed", desc := "(IIIII)I" } : Jvm.MethodName) ({ cls := "StreamQueriesModel", name := "feed", desc := "(IIIII)I" } : Jvm.MethodName)) ∈ lw_all := lw_g (lw_at lw_m8 142 rfl) rfl
theorem q1984 : (Jvm.Cond.code ({ cls := "StreamQueriesModel", name := "feed", desc := "(IIIII)I" } : Jvm.MethodName) prog_12_method_3_code (6 : Nat) (Option.some Jvm.ClassFile.FieldType.int)) ∈ lw_all := lw_g (lw_at lw_m8 143 rfl) rfl
theorem q1985 : (Jvm.Cond.methodLink "StreamQueriesModel" (257 : Nat) ({ cls := "StreamQueriesModel", name := "lay", desc := "(I)V" } : Jvm.MethodName)) ∈ lw_all := lw_g (lw_at lw_m8 144 rfl) rfl
theorem q1986 : (Jvm.Cond.privateMethod ({ cls := "StreamQueriesModel", name := "lay", desc := "(I)V" } : Jvm.MethodName)) ∈ lw_tbl := lw_at lw_m8 145 rfl
theorem q1987 : (Jvm.Cond.instanceMethod ({ cls := "StreamQueriesModel", name := "lay", desc := "(I)V" } : Jvm.MethodName)) ∈ lw_all := lw_g (lw_at lw_m8 146 rfl) rfl
theorem q1988 : (Jvm.Cond.code ({ cls := "StreamQueriesModel", name := "lay", desc := "(I)V" } : Jvm.MethodName) prog_12_method_4_code (3 : Nat) (Option.none : Option Jvm.ClassFile.FieldType)) ∈ lw_all := lw_g (lw_at lw_m8 147 rfl) rfl
theorem q1990 : (Jvm.Cond.instanceMethod ({ cls := "StreamQueriesModel", name := "cut", desc := "(I)I" } : Jvm.MethodName)) ∈ lw_all := lw_g (lw_at lw_m8 149 rfl) rfl
theorem q1991 : (Jvm.Cond.selects "StreamQueriesModel" ({ cls := "StreamQueriesModel", name := "cut", desc := "(I)I" } : Jvm.MethodName) ({ cls := "StreamQueriesModel", name := "cut", desc := "(I)I" } : Jvm.MethodName)) ∈ lw_all := lw_g (lw_at lw_m8 150 rfl) rfl
theorem q1992 : (Jvm.Cond.code ({ cls := "StreamQueriesModel", name := "cut", desc := "(I)I" } : Jvm.MethodName) prog_12_method_5_code (3 : Nat) (Option.some Jvm.ClassFile.FieldType.int)) ∈ lw_all := lw_g (lw_at lw_m8 151 rfl) rfl
theorem q1994 : (Jvm.Cond.instanceMethod ({ cls := "StreamQueriesModel", name := "stream", desc := "(I)I" } : Jvm.MethodName)) ∈ lw_all := lw_g (lw_at lw_m8 153 rfl) rfl
theorem q1995 : (Jvm.Cond.selects "StreamQueriesModel" ({ cls := "StreamQueriesModel", name := "stream", desc := "(I)I" } : Jvm.MethodName) ({ cls := "StreamQueriesModel", name := "stream", desc := "(I)I" } : Jvm.MethodName)) ∈ lw_all := lw_g (lw_at lw_m8 154 rfl) rfl
theorem q1996 : (Jvm.Cond.code ({ cls := "StreamQueriesModel", name := "stream", desc := "(I)I" } : Jvm.MethodName) prog_12_method_6_code (2 : Nat) (Option.some Jvm.ClassFile.FieldType.int)) ∈ lw_all := lw_g (lw_at lw_m8 155 rfl) rfl
theorem q1998 : (Jvm.Cond.instanceMethod ({ cls := "StreamQueriesModel", name := "value", desc := "(J)I" } : Jvm.MethodName)) ∈ lw_all := lw_g (lw_at lw_m8 157 rfl) rfl
theorem q1999 : (Jvm.Cond.selects "StreamQueriesModel" ({ cls := "StreamQueriesModel", name := "value", desc := "(J)I" } : Jvm.MethodName) ({ cls := "StreamQueriesModel", name := "value", desc := "(J)I" } : Jvm.MethodName)) ∈ lw_all := lw_g (lw_at lw_m8 158 rfl) rfl
theorem q2000 : (Jvm.Cond.code ({ cls := "StreamQueriesModel", name := "value", desc := "(J)I" } : Jvm.MethodName) prog_12_method_7_code (3 : Nat) (Option.some Jvm.ClassFile.FieldType.int)) ∈ lw_all := lw_g (lw_at lw_m8 159 rfl) rfl
theorem q2001 : (Jvm.Cond.methodLink "StreamQueriesModel" (264 : Nat) ({ cls := "StreamQueriesModel", name := "draft", desc := "(JZ)I" } : Jvm.MethodName)) ∈ lw_all := lw_g (lw_at lw_m8 160 rfl) rfl
theorem q2002 : (Jvm.Cond.privateMethod ({ cls := "StreamQueriesModel", name := "draft", desc := "(JZ)I" } : Jvm.MethodName)) ∈ lw_tbl := lw_at lw_m8 161 rfl
theorem q2003 : (Jvm.Cond.instanceMethod ({ cls := "StreamQueriesModel", name := "draft", desc := "(JZ)I" } : Jvm.MethodName)) ∈ lw_all := lw_g (lw_at lw_m8 162 rfl) rfl
theorem q2004 : (Jvm.Cond.code ({ cls := "StreamQueriesModel", name := "draft", desc := "(JZ)I" } : Jvm.MethodName) prog_12_method_9_code (4 : Nat) (Option.some Jvm.ClassFile.FieldType.int)) ∈ lw_all := lw_g (lw_at lw_m8 163 rfl) rfl
theorem q2006 : (Jvm.Cond.instanceMethod ({ cls := "StreamQueriesModel", name := "nothing", desc := "()I" } : Jvm.MethodName)) ∈ lw_all := lw_g (lw_at lw_m8 165 rfl) rfl
theorem q2007 : (Jvm.Cond.selects "StreamQueriesModel" ({ cls := "StreamQueriesModel", name := "nothing", desc := "()I" } : Jvm.MethodName) ({ cls := "StreamQueriesModel", name := "nothing", desc := "()I" } : Jvm.MethodName)) ∈ lw_all := lw_g (lw_at lw_m8 166 rfl) rfl
theorem q2008 : (Jvm.Cond.code ({ cls := "StreamQueriesModel", name := "nothing", desc := "()I" } : Jvm.MethodName) prog_12_method_8_code (1 : Nat) (Option.some Jvm.ClassFile.FieldType.int)) ∈ lw_all := lw_g (lw_at lw_m8 167 rfl) rfl
theorem q2010 : (Jvm.Cond.instanceMethod ({ cls := "StreamQueriesModel", name := "row", desc := "(IJ)I" } : Jvm.MethodName)) ∈ lw_all := lw_g (lw_at lw_m8 169 rfl) rfl
theorem q2011 : (Jvm.Cond.selects "StreamQueriesModel" ({ cls := "StreamQueriesModel", name := "row", desc := "(IJ)I" } : Jvm.MethodName) ({ cls := "StreamQueriesModel", name := "row", desc := "(IJ)I" } : Jvm.MethodName)) ∈ lw_all := lw_g (lw_at lw_m8 170 rfl) rfl
theorem q2012 : (Jvm.Cond.code ({ cls := "StreamQueriesModel", name := "row", desc := "(IJ)I" } : Jvm.MethodName) prog_12_method_10_code (8 : Nat) (Option.some Jvm.ClassFile.FieldType.int)) ∈ lw_all := lw_g (lw_at lw_m8 171 rfl) rfl
theorem q2013 : (Jvm.Cond.methodLink "StreamQueriesModel" (274 : Nat) ({ cls := "StreamQueriesModel", name := "renew", desc := "(Z)V" } : Jvm.MethodName)) ∈ lw_all := lw_g (lw_at lw_m8 172 rfl) rfl
theorem q2014 : (Jvm.Cond.privateMethod ({ cls := "StreamQueriesModel", name := "renew", desc := "(Z)V" } : Jvm.MethodName)) ∈ lw_tbl := lw_at lw_m8 173 rfl
theorem q2015 : (Jvm.Cond.instanceMethod ({ cls := "StreamQueriesModel", name := "renew", desc := "(Z)V" } : Jvm.MethodName)) ∈ lw_all := lw_g (lw_at lw_m8 174 rfl) rfl
theorem q2016 : (Jvm.Cond.code ({ cls := "StreamQueriesModel", name := "renew", desc := "(Z)V" } : Jvm.MethodName) prog_12_method_94_code (8 : Nat) (Option.none : Option Jvm.ClassFile.FieldType)) ∈ lw_all := lw_g (lw_at lw_m8 175 rfl) rfl
theorem q2017 : (Jvm.Cond.methodLink "StreamQueriesModel" (659 : Nat) ({ cls := "StreamQueriesModel", name := "workQuery", desc := "(I)I" } : Jvm.MethodName)) ∈ lw_all := lw_g (lw_at lw_m8 176 rfl) rfl
theorem q2018 : (Jvm.Cond.privateMethod ({ cls := "StreamQueriesModel", name := "workQuery", desc := "(I)I" } : Jvm.MethodName)) ∈ lw_tbl := lw_at lw_m8 177 rfl
theorem q2019 : (Jvm.Cond.instanceMethod ({ cls := "StreamQueriesModel", name := "workQuery", desc := "(I)I" } : Jvm.MethodName)) ∈ lw_all := lw_g (lw_at lw_m8 178 rfl) rfl
theorem q2020 : (Jvm.Cond.code ({ cls := "StreamQueriesModel", name := "workQuery", desc := "(I)I" } : Jvm.MethodName) prog_12_method_90_code (5 : Nat) (Option.some Jvm.ClassFile.FieldType.int)) ∈ lw_all := lw_g (lw_at lw_m8 179 rfl) rfl
theorem q2021 : (Jvm.Cond.methodLink "StreamQueriesModel" (700 : Nat) ({ cls := "StreamQueriesModel", name := "workSelect", desc := "(I)I" } : Jvm.MethodName)) ∈ lw_all := lw_g (lw_at lw_m8 180 rfl) rfl
theorem q2022 : (Jvm.Cond.privateMethod ({ cls := "StreamQueriesModel", name := "workSelect", desc := "(I)I" } : Jvm.MethodName)) ∈ lw_tbl := lw_at lw_m8 181 rfl
theorem q2023 : (Jvm.Cond.instanceMethod ({ cls := "StreamQueriesModel", name := "workSelect", desc := "(I)I" } : Jvm.MethodName)) ∈ lw_all := lw_g (lw_at lw_m8 182 rfl) rfl
theorem q2024 : (Jvm.Cond.code ({ cls := "StreamQueriesModel", name := "workSelect", desc := "(I)I" } : Jvm.MethodName) prog_12_method_83_code (5 : Nat) (Option.some Jvm.ClassFile.FieldType.int)) ∈ lw_all := lw_g (lw_at lw_m8 183 rfl) rfl
theorem q2025 : (Jvm.Cond.methodLink "StreamQueriesModel" (675 : Nat) ({ cls := "StreamQueriesModel", name := "workSource", desc := "(I)I" } : Jvm.MethodName)) ∈ lw_all := lw_g (lw_at lw_m8 184 rfl) rfl
theorem q2026 : (Jvm.Cond.privateMethod ({ cls := "StreamQueriesModel", name := "workSource", desc := "(I)I" } : Jvm.MethodName)) ∈ lw_tbl := lw_at lw_m8 185 rfl
theorem q2027 : (Jvm.Cond.instanceMethod ({ cls := "StreamQueriesModel", name := "workSource", desc := "(I)I" } : Jvm.MethodName)) ∈ lw_all := lw_g (lw_at lw_m8 186 rfl) rfl
theorem q2028 : (Jvm.Cond.code ({ cls := "StreamQueriesModel", name := "workSource", desc := "(I)I" } : Jvm.MethodName) prog_12_method_81_code (9 : Nat) (Option.some Jvm.ClassFile.FieldType.int)) ∈ lw_all := lw_g (lw_at lw_m8 187 rfl) rfl
theorem q2029 : (Jvm.Cond.methodLink "StreamQueriesModel" (662 : Nat) ({ cls := "StreamQueriesModel", name := "relation", desc := "(I)I" } : Jvm.MethodName)) ∈ lw_all := lw_g (lw_at lw_m8 188 rfl) rfl
theorem q2030 : (Jvm.Cond.privateMethod ({ cls := "StreamQueriesModel", name := "relation", desc := "(I)I" } : Jvm.MethodName)) ∈ lw_tbl := lw_at lw_m8 189 rfl
theorem q2031 : (Jvm.Cond.instanceMethod ({ cls := "StreamQueriesModel", name := "relation", desc := "(I)I" } : Jvm.MethodName)) ∈ lw_all := lw_g (lw_at lw_m8 190 rfl) rfl
theorem q2032 : (Jvm.Cond.code ({ cls := "StreamQueriesModel", name := "relation", desc := "(I)I" } : Jvm.MethodName) prog_12_method_64_code (3 : Nat) (Option.some Jvm.ClassFile.FieldType.int)) ∈ lw_all := lw_g (lw_at lw_m8 191 rfl) rfl
theorem q2033 : (Jvm.Cond.methodLink "StreamQueriesModel" (665 : Nat) ({ cls := "StreamQueriesModel", name := "isIn", desc := "(II)Z" } : Jvm.MethodName)) ∈ lw_all := lw_g (lw_at lw_m8 192 rfl) rfl
theorem q2034 : (Jvm.Cond.privateMethod ({ cls := "StreamQueriesModel", name := "isIn", desc := "(II)Z" } : Jvm.MethodName)) ∈ lw_tbl := lw_at lw_m8 193 rfl
theorem q2035 : (Jvm.Cond.instanceMethod ({ cls := "StreamQueriesModel", name := "isIn", desc := "(II)Z" } : Jvm.MethodName)) ∈ lw_all := lw_g (lw_at lw_m8 194 rfl) rfl
theorem q2036 : (Jvm.Cond.code ({ cls := "StreamQueriesModel", name := "isIn", desc := "(II)Z" } : Jvm.MethodName) prog_12_method_80_code (3 : Nat) (Option.some Jvm.ClassFile.FieldType.boolean)) ∈ lw_all := lw_g (lw_at lw_m8 195 rfl) rfl
theorem q2037 : (Jvm.Cond.methodLink "StreamQueriesModel" (656 : Nat) ({ cls := "StreamQueriesModel", name := "since", desc := "(I)J" } : Jvm.MethodName)) ∈ lw_all := lw_g (lw_at lw_m8 196 rfl) rfl
theorem q2038 : (Jvm.Cond.privateMethod ({ cls := "StreamQueriesModel", name := "since", desc := "(I)J" } : Jvm.MethodName)) ∈ lw_tbl := lw_at lw_m8 197 rfl
theorem q2039 : (Jvm.Cond.instanceMethod ({ cls := "StreamQueriesModel", name := "since", desc := "(I)J" } : Jvm.MethodName)) ∈ lw_all := lw_g (lw_at lw_m8 198 rfl) rfl
theorem q2040 : (Jvm.Cond.code ({ cls := "StreamQueriesModel", name := "since", desc := "(I)J" } : Jvm.MethodName) prog_12_method_79_code (4 : Nat) (Option.some Jvm.ClassFile.FieldType.long)) ∈ lw_all := lw_g (lw_at lw_m8 199 rfl) rfl
theorem q2041 : (Jvm.Cond.methodLink "StreamQueriesModel" (668 : Nat) ({ cls := "StreamQueriesModel", name := "newRow", desc := "(I)I" } : Jvm.MethodName)) ∈ lw_all := lw_g (lw_at lw_m8 200 rfl) rfl
theorem q2042 : (Jvm.Cond.privateMethod ({ cls := "StreamQueriesModel", name := "newRow", desc := "(I)I" } : Jvm.MethodName)) ∈ lw_tbl := lw_at lw_m8 201 rfl
theorem q2043 : (Jvm.Cond.instanceMethod ({ cls := "StreamQueriesModel", name := "newRow", desc := "(I)I" } : Jvm.MethodName)) ∈ lw_all := lw_g (lw_at lw_m8 202 rfl) rfl
theorem q2044 : (Jvm.Cond.code ({ cls := "StreamQueriesModel", name := "newRow", desc := "(I)I" } : Jvm.MethodName) prog_12_method_65_code (2 : Nat) (Option.some Jvm.ClassFile.FieldType.int)) ∈ lw_all := lw_g (lw_at lw_m8 203 rfl) rfl
theorem q2045 : (Jvm.Cond.methodLink "StreamQueriesModel" (678 : Nat) ({ cls := "StreamQueriesModel", name := "join", desc := "(III)I" } : Jvm.MethodName)) ∈ lw_all := lw_g (lw_at lw_m8 204 rfl) rfl
theorem q2046 : (Jvm.Cond.privateMethod ({ cls := "StreamQueriesModel", name := "join", desc := "(III)I" } : Jvm.MethodName)) ∈ lw_tbl := lw_at lw_m8 205 rfl
theorem q2047 : (Jvm.Cond.instanceMethod ({ cls := "StreamQueriesModel", name := "join", desc := "(III)I" } : Jvm.MethodName)) ∈ lw_all := lw_g (lw_at lw_m8 206 rfl) rfl
theorem q2048 : (Jvm.Cond.code ({ cls := "StreamQueriesModel", name := "join", desc := "(III)I" } : Jvm.MethodName) prog_12_method_82_code (11 : Nat) (Option.some Jvm.ClassFile.FieldType.int)) ∈ lw_all := lw_g (lw_at lw_m8 207 rfl) rfl
theorem q2049 : (Jvm.Cond.methodLink "StreamQueriesModel" (653 : Nat) ({ cls := "StreamQueriesModel", name := "rowAt", desc := "(II)I" } : Jvm.MethodName)) ∈ lw_all := lw_g (lw_at lw_m8 208 rfl) rfl
theorem q2050 : (Jvm.Cond.privateMethod ({ cls := "StreamQueriesModel", name := "rowAt", desc := "(II)I" } : Jvm.MethodName)) ∈ lw_tbl := lw_at lw_m8 209 rfl
theorem q2051 : (Jvm.Cond.instanceMethod ({ cls := "StreamQueriesModel", name := "rowAt", desc := "(II)I" } : Jvm.MethodName)) ∈ lw_all := lw_g (lw_at lw_m8 210 rfl) rfl
theorem q2052 : (Jvm.Cond.code ({ cls := "StreamQueriesModel", name := "rowAt", desc := "(II)I" } : Jvm.MethodName) prog_12_method_66_code (3 : Nat) (Option.some Jvm.ClassFile.FieldType.int)) ∈ lw_all := lw_g (lw_at lw_m8 211 rfl) rfl
theorem q2053 : (Jvm.Cond.methodLink "StreamQueriesModel" (671 : Nat) ({ cls := "StreamQueriesModel", name := "copy", desc := "(III)V" } : Jvm.MethodName)) ∈ lw_all := lw_g (lw_at lw_m8 212 rfl) rfl
theorem q2054 : (Jvm.Cond.privateMethod ({ cls := "StreamQueriesModel", name := "copy", desc := "(III)V" } : Jvm.MethodName)) ∈ lw_tbl := lw_at lw_m8 213 rfl
theorem q2055 : (Jvm.Cond.instanceMethod ({ cls := "StreamQueriesModel", name := "copy", desc := "(III)V" } : Jvm.MethodName)) ∈ lw_all := lw_g (lw_at lw_m8 214 rfl) rfl
theorem q2056 : (Jvm.Cond.code ({ cls := "StreamQueriesModel", name := "copy", desc := "(III)V" } : Jvm.MethodName) prog_12_method_67_code (5 : Nat) (Option.none : Option Jvm.ClassFile.FieldType)) ∈ lw_all := lw_g (lw_at lw_m8 215 rfl) rfl
theorem q2057 : (Jvm.Cond.methodLink "StreamQueriesModel" (628 : Nat) ({ cls := "StreamQueriesModel", name := "truth", desc := "(I)I" } : Jvm.MethodName)) ∈ lw_all := lw_g (lw_at lw_m8 216 rfl) rfl
theorem q2058 : (Jvm.Cond.privateMethod ({ cls := "StreamQueriesModel", name := "truth", desc := "(I)I" } : Jvm.MethodName)) ∈ lw_tbl := lw_at lw_m8 217 rfl
theorem q2059 : (Jvm.Cond.instanceMethod ({ cls := "StreamQueriesModel", name := "truth", desc := "(I)I" } : Jvm.MethodName)) ∈ lw_all := lw_g (lw_at lw_m8 218 rfl) rfl
theorem q2060 : (Jvm.Cond.code ({ cls := "StreamQueriesModel", name := "truth", desc := "(I)I" } : Jvm.MethodName) prog_12_method_70_code (4 : Nat) (Option.some Jvm.ClassFile.FieldType.int)) ∈ lw_all := lw_g (lw_at lw_m8 219 rfl) rfl
theorem q2061 : (Jvm.Cond.methodLink "StreamQueriesModel" (600 : Nat) ({ cls := "StreamQueriesModel", name := "eval", desc := "(I)J" } : Jvm.MethodName)) ∈ lw_all := lw_g (lw_at lw_m8 220 rfl) rfl
theorem q2062 : (Jvm.Cond.privateMethod ({ cls := "StreamQueriesModel", name := "eval", desc := "(I)J" } : Jvm.MethodName)) ∈ lw_tbl := lw_at lw_m8 221 rfl
theorem q2063 : (Jvm.Cond.instanceMethod ({ cls := "StreamQueriesModel", name := "eval", desc := "(I)J" } : Jvm.MethodName)) ∈ lw_all := lw_g (lw_at lw_m8 222 rfl) rfl
theorem q2064 : (Jvm.Cond.code ({ cls := "StreamQueriesModel", name := "eval", desc := "(I)J" } : Jvm.MethodName) prog_12_method_74_code (8 : Nat) (Option.some Jvm.ClassFile.FieldType.long)) ∈ lw_all := lw_g (lw_at lw_m8 223 rfl) rfl
theorem q2065 : (Jvm.Cond.methodLink "StreamQueriesModel" (611 : Nat) ({ cls := "StreamQueriesModel", name := "some", desc := "(J)J" } : Jvm.MethodName)) ∈ lw_all := lw_g (lw_at lw_m8 224 rfl) rfl
theorem q2066 : (Jvm.Cond.privateMethod ({ cls := "StreamQueriesModel", name := "some", desc := "(J)J" } : Jvm.MethodName)) ∈ lw_tbl := lw_at lw_m8 225 rfl
theorem q2067 : (Jvm.Cond.instanceMethod ({ cls := "StreamQueriesModel", name := "some", desc := "(J)J" } : Jvm.MethodName)) ∈ lw_all := lw_g (lw_at lw_m8 226 rfl) rfl
theorem q2068 : (Jvm.Cond.code ({ cls := "StreamQueriesModel", name := "some", desc := "(J)J" } : Jvm.MethodName) prog_12_method_72_code (3 : Nat) (Option.some Jvm.ClassFile.FieldType.long)) ∈ lw_all := lw_g (lw_at lw_m8 227 rfl) rfl
theorem q2069 : (Jvm.Cond.methodLink "StreamQueriesModel" (607 : Nat) ({ cls := "StreamQueriesModel", name := "nothing0", desc := "()J" } : Jvm.MethodName)) ∈ lw_all := lw_g (lw_at lw_m8 228 rfl) rfl
theorem q2070 : (Jvm.Cond.privateMethod ({ cls := "StreamQueriesModel", name := "nothing0", desc := "()J" } : Jvm.MethodName)) ∈ lw_tbl := lw_at lw_m8 229 rfl
theorem q2071 : (Jvm.Cond.instanceMethod ({ cls := "StreamQueriesModel", name := "nothing0", desc := "()J" } : Jvm.MethodName)) ∈ lw_all := lw_g (lw_at lw_m8 230 rfl) rfl
theorem q2072 : (Jvm.Cond.code ({ cls := "StreamQueriesModel", name := "nothing0", desc := "()J" } : Jvm.MethodName) prog_12_method_71_code (1 : Nat) (Option.some Jvm.ClassFile.FieldType.long)) ∈ lw_all := lw_g (lw_at lw_m8 231 rfl) rfl
theorem q2073 : (Jvm.Cond.methodLink "StreamQueriesModel" (624 : Nat) ({ cls := "StreamQueriesModel", name := "aggregated", desc := "(II)J" } : Jvm.MethodName)) ∈ lw_all := lw_g (lw_at lw_m8 232 rfl) rfl
theorem q2074 : (Jvm.Cond.privateMethod ({ cls := "StreamQueriesModel", name := "aggregated", desc := "(II)J" } : Jvm.MethodName)) ∈ lw_tbl := lw_at lw_m8 233 rfl
theorem q2075 : (Jvm.Cond.instanceMethod ({ cls := "StreamQueriesModel", name := "aggregated", desc := "(II)J" } : Jvm.MethodName)) ∈ lw_all := lw_g (lw_at lw_m8 234 rfl) rfl
theorem q2076 : (Jvm.Cond.code ({ cls := "StreamQueriesModel", name := "aggregated", desc := "(II)J" } : Jvm.MethodName) prog_12_method_78_code (13 : Nat) (Option.some Jvm.ClassFile.FieldType.long)) ∈ lw_all := lw_g (lw_at lw_m8 235 rfl) rfl
theorem q2077 : (Jvm.Cond.methodLink "StreamQueriesModel" (631 : Nat) ({ cls := "StreamQueriesModel", name := "both", desc := "(ZII)I" } : Jvm.MethodName)) ∈ lw_all := lw_g (lw_at lw_m8 236 rfl) rfl
theorem q2078 : (Jvm.Cond.static ({ cls := "StreamQueriesModel", name := "both", desc := "(ZII)I" } : Jvm.MethodName)) ∈ lw_all := lw_g (lw_at lw_m8 237 rfl) rfl
theorem q2079 : (Jvm.Cond.code ({ cls := "StreamQueriesModel", name := "both", desc := "(ZII)I" } : Jvm.MethodName) prog_12_method_75_code (4 : Nat) (Option.some Jvm.ClassFile.FieldType.int)) ∈ lw_all := lw_g (lw_at lw_m8 238 rfl) rfl
theorem q2080 : (Jvm.Cond.methodLink "StreamQueriesModel" (635 : Nat) ({ cls := "StreamQueriesModel", name := "ofTruth", desc := "(I)J" } : Jvm.MethodName)) ∈ lw_all := lw_g (lw_at lw_m8 239 rfl) rfl
theorem q2081 : (Jvm.Cond.privateMethod ({ cls := "StreamQueriesModel", name := "ofTruth", desc := "(I)J" } : Jvm.MethodName)) ∈ lw_tbl := lw_at lw_m9 0 rfl
theorem q2082 : (Jvm.Cond.instanceMethod ({ cls := "StreamQueriesModel", name := "ofTruth", desc := "(I)J" } : Jvm.MethodName)) ∈ lw_all := lw_g (lw_at lw_m9 1 rfl) rfl
theorem q2083 : (Jvm.Cond.code ({ cls := "StreamQueriesModel", name := "ofTruth", desc := "(I)J" } : Jvm.MethodName) prog_12_method_73_code (2 : Nat) (Option.some Jvm.ClassFile.FieldType.long)) ∈ lw_all := lw_g (lw_at lw_m9 2 rfl) rfl
theorem q2084 : (Jvm.Cond.methodLink "StreamQueriesModel" (638 : Nat) ({ cls := "StreamQueriesModel", name := "isOneOf", desc := "(I)J" } : Jvm.MethodName)) ∈ lw_all := lw_g (lw_at lw_m9 3 rfl) rfl
theorem q2085 : (Jvm.Cond.privateMethod ({ cls := "StreamQueriesModel", name := "isOneOf", desc := "(I)J" } : Jvm.MethodName)) ∈ lw_tbl := lw_at lw_m9 4 rfl
theorem q2086 : (Jvm.Cond.instanceMethod ({ cls := "StreamQueriesModel", name := "isOneOf", desc := "(I)J" } : Jvm.MethodName)) ∈ lw_all := lw_g (lw_at lw_m9 5 rfl) rfl
theorem q2087 : (Jvm.Cond.code ({ cls := "StreamQueriesModel", name := "isOneOf", desc := "(I)J" } : Jvm.MethodName) prog_12_method_77_code (9 : Nat) (Option.some Jvm.ClassFile.FieldType.long)) ∈ lw_all := lw_g (lw_at lw_m9 6 rfl) rfl
theorem q2088 : (Jvm.Cond.methodLink "StreamQueriesModel" (641 : Nat) ({ cls := "StreamQueriesModel", name := "some2", desc := "(IIJJ)J" } : Jvm.MethodName)) ∈ lw_all := lw_g (lw_at lw_m9 7 rfl) rfl
theorem q2089 : (Jvm.Cond.privateMethod ({ cls := "StreamQueriesModel", name := "some2", desc := "(IIJJ)J" } : Jvm.MethodName)) ∈ lw_tbl := lw_at lw_m9 8 rfl
theorem q2090 : (Jvm.Cond.instanceMethod ({ cls := "StreamQueriesModel", name := "some2", desc := "(IIJJ)J" } : Jvm.MethodName)) ∈ lw_all := lw_g (lw_at lw_m9 9 rfl) rfl
theorem q2091 : (Jvm.Cond.code ({ cls := "StreamQueriesModel", name := "some2", desc := "(IIJJ)J" } : Jvm.MethodName) prog_12_method_76_code (9 : Nat) (Option.some Jvm.ClassFile.FieldType.long)) ∈ lw_all := lw_g (lw_at lw_m9 10 rfl) rfl
theorem q2092 : (Jvm.Cond.constantLong "StreamQueriesModel" (645 : Nat) (-1 : Int64)) ∈ lw_all := lw_g (lw_at lw_m9 11 rfl) rfl
theorem q2093 : (Jvm.Cond.methodLink "StreamQueriesModel" (681 : Nat) ({ cls := "StreamQueriesModel", name := "filter", desc := "(II)I" } : Jvm.MethodName)) ∈ lw_all := lw_g (lw_at lw_m9 12 rfl) rfl
theorem q2094 : (Jvm.Cond.privateMethod ({ cls := "StreamQueriesModel", name := "filter", desc := "(II)I" } : Jvm.MethodName)) ∈ lw_tbl := lw_at lw_m9 13 rfl
theorem q2095 : (Jvm.Cond.instanceMethod ({ cls := "StreamQueriesModel", name := "filter", desc := "(II)I" } : Jvm.MethodName)) ∈ lw_all := lw_g (lw_at lw_m9 14 rfl) rfl
theorem q2096 : (Jvm.Cond.code ({ cls := "StreamQueriesModel", name := "filter", desc := "(II)I" } : Jvm.MethodName) prog_12_method_84_code (6 : Nat) (Option.some Jvm.ClassFile.FieldType.int)) ∈ lw_all := lw_g (lw_at lw_m9 15 rfl) rfl
theorem q2097 : (Jvm.Cond.methodLink "StreamQueriesModel" (571 : Nat) ({ cls := "StreamQueriesModel", name := "isGrouped", desc := "(I)Z" } : Jvm.MethodName)) ∈ lw_all := lw_g (lw_at lw_m9 16 rfl) rfl
theorem q2098 : (Jvm.Cond.privateMethod ({ cls := "StreamQueriesModel", name := "isGrouped", desc := "(I)Z" } : Jvm.MethodName)) ∈ lw_tbl := lw_at lw_m9 17 rfl
theorem q2099 : (Jvm.Cond.instanceMethod ({ cls := "StreamQueriesModel", name := "isGrouped", desc := "(I)Z" } : Jvm.MethodName)) ∈ lw_all := lw_g (lw_at lw_m9 18 rfl) rfl
theorem q2100 : (Jvm.Cond.code ({ cls := "StreamQueriesModel", name := "isGrouped", desc := "(I)Z" } : Jvm.MethodName) prog_12_method_59_code (2 : Nat) (Option.some Jvm.ClassFile.FieldType.boolean)) ∈ lw_all := lw_g (lw_at lw_m9 19 rfl) rfl
theorem q2101 : (Jvm.Cond.methodLink "StreamQueriesModel" (684 : Nat) ({ cls := "StreamQueriesModel", name := "grouped", desc := "(II)I" } : Jvm.MethodName)) ∈ lw_all := lw_g (lw_at lw_m9 20 rfl) rfl
theorem q2102 : (Jvm.Cond.privateMethod ({ cls := "StreamQueriesModel", name := "grouped", desc := "(II)I" } : Jvm.MethodName)) ∈ lw_tbl := lw_at lw_m9 21 rfl
theorem q2103 : (Jvm.Cond.instanceMethod ({ cls := "StreamQueriesModel", name := "grouped", desc := "(II)I" } : Jvm.MethodName)) ∈ lw_all := lw_g (lw_at lw_m9 22 rfl) rfl
theorem q2104 : (Jvm.Cond.code ({ cls := "StreamQueriesModel", name := "grouped", desc := "(II)I" } : Jvm.MethodName) prog_12_method_86_code (10 : Nat) (Option.some Jvm.ClassFile.FieldType.int)) ∈ lw_all := lw_g (lw_at lw_m9 23 rfl) rfl
theorem q2105 : (Jvm.Cond.methodLink "StreamQueriesModel" (693 : Nat) ({ cls := "StreamQueriesModel", name := "compareRows", desc := "(III)I" } : Jvm.MethodName)) ∈ lw_all := lw_g (lw_at lw_m9 24 rfl) rfl
theorem q2106 : (Jvm.Cond.privateMethod ({ cls := "StreamQueriesModel", name := "compareRows", desc := "(III)I" } : Jvm.MethodName)) ∈ lw_tbl := lw_at lw_m9 25 rfl
theorem q2107 : (Jvm.Cond.instanceMethod ({ cls := "StreamQueriesModel", name := "compareRows", desc := "(III)I" } : Jvm.MethodName)) ∈ lw_all := lw_g (lw_at lw_m9 26 rfl) rfl
theorem q2108 : (Jvm.Cond.code ({ cls := "StreamQueriesModel", name := "compareRows", desc := "(III)I" } : Jvm.MethodName) prog_12_method_69_code (6 : Nat) (Option.some Jvm.ClassFile.FieldType.int)) ∈ lw_all := lw_g (lw_at lw_m9 27 rfl) rfl
theorem q2109 : (Jvm.Cond.methodLink "StreamQueriesModel" (596 : Nat) ({ cls := "StreamQueriesModel", name := "compare", desc := "(JZJZ)I" } : Jvm.MethodName)) ∈ lw_all := lw_g (lw_at lw_m9 28 rfl) rfl
theorem q2110 : (Jvm.Cond.static ({ cls := "StreamQueriesModel", name := "compare", desc := "(JZJZ)I" } : Jvm.MethodName)) ∈ lw_all := lw_g (lw_at lw_m9 29 rfl) rfl
theorem q2111 : (Jvm.Cond.code ({ cls := "StreamQueriesModel", name := "compare", desc := "(JZJZ)I" } : Jvm.MethodName) prog_12_method_68_code (6 : Nat) (Option.some Jvm.ClassFile.FieldType.int)) ∈ lw_all := lw_g (lw_at lw_m9 30 rfl) rfl
theorem q2112 : (Jvm.Cond.methodLink "StreamQueriesModel" (687 : Nat) ({ cls := "StreamQueriesModel", name := "plain", desc := "(II)I" } : Jvm.MethodName)) ∈ lw_all := lw_g (lw_at lw_m9 31 rfl) rfl
theorem q2113 : (Jvm.Cond.privateMethod ({ cls := "StreamQueriesModel", name := "plain", desc := "(II)I" } : Jvm.MethodName)) ∈ lw_tbl := lw_at lw_m9 32 rfl
theorem q2114 : (Jvm.Cond.instanceMethod ({ cls := "StreamQueriesModel", name := "plain", desc := "(II)I" } : Jvm.MethodName)) ∈ lw_all := lw_g (lw_at lw_m9 33 rfl) rfl
theorem q2115 : (Jvm.Cond.code ({ cls := "StreamQueriesModel", name := "plain", desc := "(II)I" } : Jvm.MethodName) prog_12_method_85_code (7 : Nat) (Option.some Jvm.ClassFile.FieldType.int)) ∈ lw_all := lw_g (lw_at lw_m9 34 rfl) rfl
theorem q2116 : (Jvm.Cond.methodLink "StreamQueriesModel" (690 : Nat) ({ cls := "StreamQueriesModel", name := "once", desc := "(I)I" } : Jvm.MethodName)) ∈ lw_all := lw_g (lw_at lw_m9 35 rfl) rfl
theorem q2117 : (Jvm.Cond.privateMethod ({ cls := "StreamQueriesModel", name := "once", desc := "(I)I" } : Jvm.MethodName)) ∈ lw_tbl := lw_at lw_m9 36 rfl
theorem q2118 : (Jvm.Cond.instanceMethod ({ cls := "StreamQueriesModel", name := "once", desc := "(I)I" } : Jvm.MethodName)) ∈ lw_all := lw_g (lw_at lw_m9 37 rfl) rfl
theorem q2119 : (Jvm.Cond.code ({ cls := "StreamQueriesModel", name := "once", desc := "(I)I" } : Jvm.MethodName) prog_12_method_88_code (4 : Nat) (Option.some Jvm.ClassFile.FieldType.int)) ∈ lw_all := lw_g (lw_at lw_m9 38 rfl) rfl
theorem q2120 : (Jvm.Cond.methodLink "StreamQueriesModel" (696 : Nat) ({ cls := "StreamQueriesModel", name := "hasRow", desc := "(III)Z" } : Jvm.MethodName)) ∈ lw_all := lw_g (lw_at lw_m9 39 rfl) rfl
theorem q2121 : (Jvm.Cond.privateMethod ({ cls := "StreamQueriesModel", name := "hasRow", desc := "(III)Z" } : Jvm.MethodName)) ∈ lw_tbl := lw_at lw_m9 40 rfl
theorem q2122 : (Jvm.Cond.instanceMethod ({ cls := "StreamQueriesModel", name := "hasRow", desc := "(III)Z" } : Jvm.MethodName)) ∈ lw_all := lw_g (lw_at lw_m9 41 rfl) rfl
theorem q2123 : (Jvm.Cond.code ({ cls := "StreamQueriesModel", name := "hasRow", desc := "(III)Z" } : Jvm.MethodName) prog_12_method_87_code (5 : Nat) (Option.some Jvm.ClassFile.FieldType.boolean)) ∈ lw_all := lw_g (lw_at lw_m9 42 rfl) rfl
theorem q2124 : (Jvm.Cond.methodLink "StreamQueriesModel" (703 : Nat) ({ cls := "StreamQueriesModel", name := "setOf", desc := "(III)I" } : Jvm.MethodName)) ∈ lw_all := lw_g (lw_at lw_m9 43 rfl) rfl
theorem q2125 : (Jvm.Cond.privateMethod ({ cls := "StreamQueriesModel", name := "setOf", desc := "(III)I" } : Jvm.MethodName)) ∈ lw_tbl := lw_at lw_m9 44 rfl
theorem q2126 : (Jvm.Cond.instanceMethod ({ cls := "StreamQueriesModel", name := "setOf", desc := "(III)I" } : Jvm.MethodName)) ∈ lw_all := lw_g (lw_at lw_m9 45 rfl) rfl
theorem q2127 : (Jvm.Cond.code ({ cls := "StreamQueriesModel", name := "setOf", desc := "(III)I" } : Jvm.MethodName) prog_12_method_89_code (9 : Nat) (Option.some Jvm.ClassFile.FieldType.int)) ∈ lw_all := lw_g (lw_at lw_m9 46 rfl) rfl
theorem q2128 : (Jvm.Cond.methodLink "StreamQueriesModel" (706 : Nat) ({ cls := "StreamQueriesModel", name := "ordered", desc := "(II)I" } : Jvm.MethodName)) ∈ lw_all := lw_g (lw_at lw_m9 47 rfl) rfl
theorem q2129 : (Jvm.Cond.privateMethod ({ cls := "StreamQueriesModel", name := "ordered", desc := "(II)I" } : Jvm.MethodName)) ∈ lw_tbl := lw_at lw_m9 48 rfl
theorem q2130 : (Jvm.Cond.instanceMethod ({ cls := "StreamQueriesModel", name := "ordered", desc := "(II)I" } : Jvm.MethodName)) ∈ lw_all := lw_g (lw_at lw_m9 49 rfl) rfl
theorem q2131 : (Jvm.Cond.code ({ cls := "StreamQueriesModel", name := "ordered", desc := "(II)I" } : Jvm.MethodName) prog_12_method_91_code (10 : Nat) (Option.some Jvm.ClassFile.FieldType.int)) ∈ lw_all := lw_g (lw_at lw_m9 50 rfl) rfl
theorem q2132 : (Jvm.Cond.methodLink "StreamQueriesModel" (709 : Nat) ({ cls := "StreamQueriesModel", name := "ahead", desc := "(IIIII)Z" } : Jvm.MethodName)) ∈ lw_all := lw_g (lw_at lw_m9 51 rfl) rfl
theorem q2133 : (Jvm.Cond.privateMethod ({ cls := "StreamQueriesModel", name := "ahead", desc := "(IIIII)Z" } : Jvm.MethodName)) ∈ lw_tbl := lw_at lw_m9 52 rfl
theorem q2134 : (Jvm.Cond.instanceMethod ({ cls := "StreamQueriesModel", name := "ahead", desc := "(IIIII)Z" } : Jvm.MethodName)) ∈ lw_all := lw_g (lw_at lw_m9 53 rfl) rfl
theorem q2135 : (Jvm.Cond.code ({ cls := "StreamQueriesModel", name := "ahead", desc := "(IIIII)Z" } : Jvm.MethodName) prog_12_method_92_code (10 : Nat) (Option.some Jvm.ClassFile.FieldType.boolean)) ∈ lw_all := lw_g (lw_at lw_m9 54 rfl) rfl
theorem q2136 : (Jvm.Cond.methodLink "StreamQueriesModel" (722 : Nat) ({ cls := "StreamQueriesModel", name := "sort", desc := "(I)V" } : Jvm.MethodName)) ∈ lw_all := lw_g (lw_at lw_m9 55 rfl) rfl
theorem q2137 : (Jvm.Cond.privateMethod ({ cls := "StreamQueriesModel", name := "sort", desc := "(I)V" } : Jvm.MethodName)) ∈ lw_tbl := lw_at lw_m9 56 rfl
theorem q2138 : (Jvm.Cond.instanceMethod ({ cls := "StreamQueriesModel", name := "sort", desc := "(I)V" } : Jvm.MethodName)) ∈ lw_all := lw_g (lw_at lw_m9 57 rfl) rfl
theorem q2139 : (Jvm.Cond.code ({ cls := "StreamQueriesModel", name := "sort", desc := "(I)V" } : Jvm.MethodName) prog_12_method_93_code (5 : Nat) (Option.none : Option Jvm.ClassFile.FieldType)) ∈ lw_all := lw_g (lw_at lw_m9 58 rfl) rfl
theorem q2140 : (Jvm.Cond.methodLink "StreamQueriesModel" (727 : Nat) ({ cls := "StreamQueriesModel", name := "differ", desc := "(Z)V" } : Jvm.MethodName)) ∈ lw_all := lw_g (lw_at lw_m9 59 rfl) rfl
theorem q2141 : (Jvm.Cond.privateMethod ({ cls := "StreamQueriesModel", name := "differ", desc := "(Z)V" } : Jvm.MethodName)) ∈ lw_tbl := lw_at lw_m9 60 rfl
theorem q2142 : (Jvm.Cond.instanceMethod ({ cls := "StreamQueriesModel", name := "differ", desc := "(Z)V" } : Jvm.MethodName)) ∈ lw_all := lw_g (lw_at lw_m9 61 rfl) rfl
theorem q2143 : (Jvm.Cond.code ({ cls := "StreamQueriesModel", name := "differ", desc := "(Z)V" } : Jvm.MethodName) prog_12_method_97_code (10 : Nat) (Option.none : Option Jvm.ClassFile.FieldType)) ∈ lw_all := lw_g (lw_at lw_m9 62 rfl) rfl
theorem q2144 : (Jvm.Cond.methodLink "StreamQueriesModel" (730 : Nat) ({ cls := "StreamQueriesModel", name := "compareAcross", desc := "(II)I" } : Jvm.MethodName)) ∈ lw_all := lw_g (lw_at lw_m9 63 rfl) rfl
theorem q2145 : (Jvm.Cond.privateMethod ({ cls := "StreamQueriesModel", name := "compareAcross", desc := "(II)I" } : Jvm.MethodName)) ∈ lw_tbl := lw_at lw_m9 64 rfl
theorem q2146 : (Jvm.Cond.instanceMethod ({ cls := "StreamQueriesModel", name := "compareAcross", desc := "(II)I" } : Jvm.MethodName)) ∈ lw_all := lw_g (lw_at lw_m9 65 rfl) rfl
theorem q2147 : (Jvm.Cond.code ({ cls := "StreamQueriesModel", name := "compareAcross", desc := "(II)I" } : Jvm.MethodName) prog_12_method_95_code (7 : Nat) (Option.some Jvm.ClassFile.FieldType.int)) ∈ lw_all := lw_g (lw_at lw_m9 66 rfl) rfl
theorem q2148 : (Jvm.Cond.methodLink "StreamQueriesModel" (733 : Nat) ({ cls := "StreamQueriesModel", name := "isLikeNext", desc := "(ZI)Z" } : Jvm.MethodName)) ∈ lw_all := lw_g (lw_at lw_m9 67 rfl) rfl
theorem q2149 : (Jvm.Cond.privateMethod ({ cls := "StreamQueriesModel", name := "isLikeNext", desc := "(ZI)Z" } : Jvm.MethodName)) ∈ lw_tbl := lw_at lw_m9 68 rfl
theorem q2150 : (Jvm.Cond.instanceMethod ({ cls := "StreamQueriesModel", name := "isLikeNext", desc := "(ZI)Z" } : Jvm.MethodName)) ∈ lw_all := lw_g (lw_at lw_m9 69 rfl) rfl
theorem q2151 : (Jvm.Cond.code ({ cls := "StreamQueriesModel", name := "isLikeNext", desc := "(ZI)Z" } : Jvm.MethodName) prog_12_method_96_code (8 : Nat) (Option.some Jvm.ClassFile.FieldType.boolean)) ∈ lw_all := lw_g (lw_at lw_m9 70 rfl) rfl
theorem q2153 : (Jvm.Cond.instanceMethod ({ cls := "StreamQueriesModel", name := "back", desc := "(II)Z" } : Jvm.MethodName)) ∈ lw_all := lw_g (lw_at lw_m9 72 rfl) rfl
theorem q2154 : (Jvm.Cond.selects "StreamQueriesModel" ({ cls := "StreamQueriesModel", name := "back", desc := "(II)Z" } : Jvm.MethodName) ({ cls := "StreamQueriesModel", name := "back", desc := "(II)Z" } : Jvm.MethodName)) ∈ lw_all := lw_g (lw_at lw_m9 73 rfl) rfl
theorem q2155 : (Jvm.Cond.code ({ cls := "StreamQueriesModel", name := "back", desc := "(II)Z" } : Jvm.MethodName) prog_12_method_11_code (3 : Nat) (Option.some Jvm.ClassFile.FieldType.boolean)) ∈ lw_all := lw_g (lw_at lw_m9 74 rfl) rfl
theorem q2157 : (Jvm.Cond.instanceMethod ({ cls := "StreamQueriesModel", name := "watermark", desc := "(J)I" } : Jvm.MethodName)) ∈ lw_all := lw_g (lw_at lw_m9 76 rfl) rfl
theorem q2158 : (Jvm.Cond.selects "StreamQueriesModel" ({ cls := "StreamQueriesModel", name := "watermark", desc := "(J)I" } : Jvm.MethodName) ({ cls := "StreamQueriesModel", name := "watermark", desc := "(J)I" } : Jvm.MethodName)) ∈ lw_all := lw_g (lw_at lw_m9 77 rfl) rfl
theorem q2159 : (Jvm.Cond.code ({ cls := "StreamQueriesModel", name := "watermark", desc := "(J)I" } : Jvm.MethodName) prog_12_method_12_code (3 : Nat) (Option.some Jvm.ClassFile.FieldType.int)) ∈ lw_all := lw_g (lw_at lw_m9 78 rfl) rfl
theorem q2161 : (Jvm.Cond.instanceMethod ({ cls := "StreamQueriesModel", name := "query", desc := "()I" } : Jvm.MethodName)) ∈ lw_all := lw_g (lw_at lw_m9 80 rfl) rfl
theorem q2162 : (Jvm.Cond.selects "StreamQueriesModel" ({ cls := "StreamQueriesModel", name := "query", desc := "()I" } : Jvm.MethodName) ({ cls := "StreamQueriesModel", name := "query", desc := "()I" } : Jvm.MethodName)) ∈ lw_all := lw_g (lw_at lw_m9 81 rfl) rfl
theorem q2163 : (Jvm.Cond.code ({ cls := "StreamQueriesModel", name := "query", desc := "()I" } : Jvm.MethodName) prog_12_method_62_code (3 : Nat) (Option.some Jvm.ClassFile.FieldType.int)) ∈ lw_all := lw_g (lw_at lw_m9 82 rfl) rfl
theorem q2164 : (Jvm.Cond.methodLink "StreamQueriesModel" (578 : Nat) ({ cls := "StreamQueriesModel", name := "take", desc := "()V" } : Jvm.MethodName)) ∈ lw_all := lw_g (lw_at lw_m9 83 rfl) rfl
theorem q2165 : (Jvm.Cond.privateMethod ({ cls := "StreamQueriesModel", name := "take", desc := "()V" } : Jvm.MethodName)) ∈ lw_tbl := lw_at lw_m9 84 rfl
theorem q2166 : (Jvm.Cond.instanceMethod ({ cls := "StreamQueriesModel", name := "take", desc := "()V" } : Jvm.MethodName)) ∈ lw_all := lw_g (lw_at lw_m9 85 rfl) rfl
theorem q2167 : (Jvm.Cond.code ({ cls := "StreamQueriesModel", name := "take", desc := "()V" } : Jvm.MethodName) prog_12_method_61_code (2 : Nat) (Option.none : Option Jvm.ClassFile.FieldType)) ∈ lw_all := lw_g (lw_at lw_m9 86 rfl) rfl
theorem q2168 : (Jvm.Cond.methodLink "StreamQueriesModel" (574 : Nat) ({ cls := "StreamQueriesModel", name := "tokens", desc := "()V" } : Jvm.MethodName)) ∈ lw_all := lw_g (lw_at lw_m9 87 rfl) rfl
theorem q2169 : (Jvm.Cond.privateMethod ({ cls := "StreamQueriesModel", name := "tokens", desc := "()V" } : Jvm.MethodName)) ∈ lw_tbl := lw_at lw_m9 88 rfl
theorem q2170 : (Jvm.Cond.instanceMethod ({ cls := "StreamQueriesModel", name := "tokens", desc := "()V" } : Jvm.MethodName)) ∈ lw_all := lw_g (lw_at lw_m9 89 rfl) rfl
theorem q2171 : (Jvm.Cond.code ({ cls := "StreamQueriesModel", name := "tokens", desc := "()V" } : Jvm.MethodName) prog_12_method_15_code (9 : Nat) (Option.none : Option Jvm.ClassFile.FieldType)) ∈ lw_all := lw_g (lw_at lw_m9 90 rfl) rfl
theorem q2172 : (Jvm.Cond.methodLink "StreamQueriesModel" (281 : Nat) ({ cls := "StreamQueriesModel", name := "isLetter", desc := "(I)Z" } : Jvm.MethodName)) ∈ lw_all := lw_g (lw_at lw_m9 91 rfl) rfl
theorem q2173 : (Jvm.Cond.static ({ cls := "StreamQueriesModel", name := "isLetter", desc := "(I)Z" } : Jvm.MethodName)) ∈ lw_all := lw_g (lw_at lw_m9 92 rfl) rfl
theorem q2174 : (Jvm.Cond.code ({ cls := "StreamQueriesModel", name := "isLetter", desc := "(I)Z" } : Jvm.MethodName) prog_12_method_13_code (1 : Nat) (Option.some Jvm.ClassFile.FieldType.boolean)) ∈ lw_all := lw_g (lw_at lw_m9 93 rfl) rfl
theorem q2175 : (Jvm.Cond.methodLink "StreamQueriesModel" (285 : Nat) ({ cls := "StreamQueriesModel", name := "isDigit", desc := "(I)Z" } : Jvm.MethodName)) ∈ lw_all := lw_g (lw_at lw_m9 94 rfl) rfl
theorem q2176 : (Jvm.Cond.static ({ cls := "StreamQueriesModel", name := "isDigit", desc := "(I)Z" } : Jvm.MethodName)) ∈ lw_all := lw_g (lw_at lw_m9 95 rfl) rfl
theorem q2177 : (Jvm.Cond.code ({ cls := "StreamQueriesModel", name := "isDigit", desc := "(I)Z" } : Jvm.MethodName) prog_12_method_14_code (1 : Nat) (Option.some Jvm.ClassFile.FieldType.boolean)) ∈ lw_all := lw_g (lw_at lw_m9 96 rfl) rfl
theorem q2178 : (Jvm.Cond.constantLong "StreamQueriesModel" (288 : Nat) (922337203685477580 : Int64)) ∈ lw_all := lw_g (lw_at lw_m9 97 rfl) rfl
theorem q2179 : (Jvm.Cond.constantLong "StreamQueriesModel" (290 : Nat) (10 : Int64)) ∈ lw_all := lw_g (lw_at lw_m9 98 rfl) rfl
theorem q2180 : (Jvm.Cond.stringRef "StreamQueriesModel" (577 : Nat) "unbounded") ∈ lw_tbl := lw_at lw_m9 99 rfl
theorem q2181 : (Jvm.Cond.methodLink "StreamQueriesModel" (326 : Nat) ({ cls := "StreamQueriesModel", name := "takeWord", desc := "(Ljava/lang/String;)Z" } : Jvm.MethodName)) ∈ lw_all := lw_g (lw_at lw_m9 100 rfl) rfl
theorem q2182 : (Jvm.Cond.privateMethod ({ cls := "StreamQueriesModel", name := "takeWord", desc := "(Ljava/lang/String;)Z" } : Jvm.MethodName)) ∈ lw_tbl := lw_at lw_m9 101 rfl
theorem q2183 : (Jvm.Cond.instanceMethod ({ cls := "StreamQueriesModel", name := "takeWord", desc := "(Ljava/lang/String;)Z" } : Jvm.MethodName)) ∈ lw_all := lw_g (lw_at lw_m9 102 rfl) rfl
theorem q2184 : (Jvm.Cond.code ({ cls := "StreamQueriesModel", name := "takeWord", desc := "(Ljava/lang/String;)Z" } : Jvm.MethodName) prog_12_method_20_code (3 : Nat) (Option.some Jvm.ClassFile.FieldType.boolean)) ∈ lw_all := lw_g (lw_at lw_m9 103 rfl) rfl
theorem q2185 : (Jvm.Cond.methodLink "StreamQueriesModel" (322 : Nat) ({ cls := "StreamQueriesModel", name := "isWord", desc := "(Ljava/lang/String;)Z" } : Jvm.MethodName)) ∈ lw_all := lw_g (lw_at lw_m9 104 rfl) rfl
theorem q2186 : (Jvm.Cond.privateMethod ({ cls := "StreamQueriesModel", name := "isWord", desc := "(Ljava/lang/String;)Z" } : Jvm.MethodName)) ∈ lw_tbl := lw_at lw_m9 105 rfl
theorem q2187 : (Jvm.Cond.instanceMethod ({ cls := "StreamQueriesModel", name := "isWord", desc := "(Ljava/lang/String;)Z" } : Jvm.MethodName)) ∈ lw_all := lw_g (lw_at lw_m9 106 rfl) rfl
theorem q2188 : (Jvm.Cond.code ({ cls := "StreamQueriesModel", name := "isWord", desc := "(Ljava/lang/String;)Z" } : Jvm.MethodName) prog_12_method_19_code (2 : Nat) (Option.some Jvm.ClassFile.FieldType.boolean)) ∈ lw_all := lw_g (lw_at lw_m9 107 rfl) rfl
theorem q2189 : (Jvm.Cond.methodLink "StreamQueriesModel" (318 : Nat) ({ cls := "StreamQueriesModel", name := "isText", desc := "(ILjava/lang/String;)Z" } : Jvm.MethodName)) ∈ lw_all := lw_g (lw_at lw_m9 108 rfl) rfl
theorem q2190 : (Jvm.Cond.privateMethod ({ cls := "StreamQueriesModel", name := "isText", desc := "(ILjava/lang/String;)Z" } : Jvm.MethodName)) ∈ lw_tbl := lw_at lw_m9 109 rfl
theorem q2191 : (Jvm.Cond.instanceMethod ({ cls := "StreamQueriesModel", name := "isText", desc := "(ILjava/lang/String;)Z" } : Jvm.MethodName)) ∈ lw_all := lw_g (lw_at lw_m9 110 rfl) rfl
theorem q2192 : (Jvm.Cond.code ({ cls := "StreamQueriesModel", name := "isText", desc := "(ILjava/lang/String;)Z" } : Jvm.MethodName) prog_12_method_18_code (4 : Nat) (Option.some Jvm.ClassFile.FieldType.boolean)) ∈ lw_all := lw_g (lw_at lw_m9 111 rfl) rfl
theorem q2193 : (Jvm.Cond.methodLink "StreamQueriesModel" (309 : Nat) ({ cls := "java/lang/String", name := "length", desc := "()I" } : Jvm.MethodName)) ∈ lw_all := lw_g (lw_at lw_m9 112 rfl) rfl
theorem q2194 : (Jvm.Cond.methodLink "StreamQueriesModel" (314 : Nat) ({ cls := "java/lang/String", name := "charAt", desc := "(I)C" } : Jvm.MethodName)) ∈ lw_all := lw_g (lw_at lw_m9 113 rfl) rfl
theorem q2195 : (Jvm.Cond.methodLink "StreamQueriesModel" (500 : Nat) ({ cls := "StreamQueriesModel", name := "queryOf", desc := "()I" } : Jvm.MethodName)) ∈ lw_all := lw_g (lw_at lw_m9 114 rfl) rfl
theorem q2196 : (Jvm.Cond.privateMethod ({ cls := "StreamQueriesModel", name := "queryOf", desc := "()I" } : Jvm.MethodName)) ∈ lw_tbl := lw_at lw_m9 115 rfl
theorem q2197 : (Jvm.Cond.instanceMethod ({ cls := "StreamQueriesModel", name := "queryOf", desc := "()I" } : Jvm.MethodName)) ∈ lw_all := lw_g (lw_at lw_m9 116 rfl) rfl
theorem q2198 : (Jvm.Cond.code ({ cls := "StreamQueriesModel", name := "queryOf", desc := "()I" } : Jvm.MethodName) prog_12_method_42_code (8 : Nat) (Option.some Jvm.ClassFile.FieldType.int)) ∈ lw_all := lw_g (lw_at lw_m9 117 rfl) rfl
theorem q2199 : (Jvm.Cond.methodLink "StreamQueriesModel" (456 : Nat) ({ cls := "StreamQueriesModel", name := "selectOf", desc := "()I" } : Jvm.MethodName)) ∈ lw_all := lw_g (lw_at lw_m9 118 rfl) rfl
theorem q2200 : (Jvm.Cond.privateMethod ({ cls := "StreamQueriesModel", name := "selectOf", desc := "()I" } : Jvm.MethodName)) ∈ lw_tbl := lw_at lw_m9 119 rfl
theorem q2201 : (Jvm.Cond.instanceMethod ({ cls := "StreamQueriesModel", name := "selectOf", desc := "()I" } : Jvm.MethodName)) ∈ lw_all := lw_g (lw_at lw_m9 120 rfl) rfl
theorem q2202 : (Jvm.Cond.code ({ cls := "StreamQueriesModel", name := "selectOf", desc := "()I" } : Jvm.MethodName) prog_12_method_43_code (9 : Nat) (Option.some Jvm.ClassFile.FieldType.int)) ∈ lw_all := lw_g (lw_at lw_m9 121 rfl) rfl
theorem q2203 : (Jvm.Cond.stringRef "StreamQueriesModel" (476 : Nat) "select") ∈ lw_tbl := lw_at lw_m9 122 rfl
theorem q2204 : (Jvm.Cond.methodLink "StreamQueriesModel" (408 : Nat) ({ cls := "StreamQueriesModel", name := "needWord", desc := "(Ljava/lang/String;)V" } : Jvm.MethodName)) ∈ lw_all := lw_g (lw_at lw_m9 123 rfl) rfl
theorem q2205 : (Jvm.Cond.privateMethod ({ cls := "StreamQueriesModel", name := "needWord", desc := "(Ljava/lang/String;)V" } : Jvm.MethodName)) ∈ lw_tbl := lw_at lw_m9 124 rfl
theorem q2206 : (Jvm.Cond.instanceMethod ({ cls := "StreamQueriesModel", name := "needWord", desc := "(Ljava/lang/String;)V" } : Jvm.MethodName)) ∈ lw_all := lw_g (lw_at lw_m9 125 rfl) rfl
theorem q2207 : (Jvm.Cond.code ({ cls := "StreamQueriesModel", name := "needWord", desc := "(Ljava/lang/String;)V" } : Jvm.MethodName) prog_12_method_21_code (2 : Nat) (Option.none : Option Jvm.ClassFile.FieldType)) ∈ lw_all := lw_g (lw_at lw_m9 126 rfl) rfl
theorem q2208 : (Jvm.Cond.methodLink "StreamQueriesModel" (329 : Nat) ({ cls := "StreamQueriesModel", name := "wrong", desc := "()V" } : Jvm.MethodName)) ∈ lw_all := lw_g (lw_at lw_m9 127 rfl) rfl
theorem q2209 : (Jvm.Cond.privateMethod ({ cls := "StreamQueriesModel", name := "wrong", desc := "()V" } : Jvm.MethodName)) ∈ lw_tbl := lw_at lw_m9 128 rfl
theorem q2210 : (Jvm.Cond.instanceMethod ({ cls := "StreamQueriesModel", name := "wrong", desc := "()V" } : Jvm.MethodName)) ∈ lw_all := lw_g (lw_at lw_m9 129 rfl) rfl
theorem q2211 : (Jvm.Cond.code ({ cls := "StreamQueriesModel", name := "wrong", desc := "()V" } : Jvm.MethodName) prog_12_method_17_code (1 : Nat) (Option.none : Option Jvm.ClassFile.FieldType)) ∈ lw_all := lw_g (lw_at lw_m9 130 rfl) rfl
theorem q2212 : (Jvm.Cond.methodLink "StreamQueriesModel" (305 : Nat) ({ cls := "StreamQueriesModel", name := "tell", desc := "(II)V" } : Jvm.MethodName)) ∈ lw_all := lw_g (lw_at lw_m9 131 rfl) rfl
theorem q2213 : (Jvm.Cond.privateMethod ({ cls := "StreamQueriesModel", name := "tell", desc := "(II)V" } : Jvm.MethodName)) ∈ lw_tbl := lw_at lw_m9 132 rfl
theorem q2214 : (Jvm.Cond.instanceMethod ({ cls := "StreamQueriesModel", name := "tell", desc := "(II)V" } : Jvm.MethodName)) ∈ lw_all := lw_g (lw_at lw_m9 133 rfl) rfl
theorem q2215 : (Jvm.Cond.code ({ cls := "StreamQueriesModel", name := "tell", desc := "(II)V" } : Jvm.MethodName) prog_12_method_16_code (3 : Nat) (Option.none : Option Jvm.ClassFile.FieldType)) ∈ lw_all := lw_g (lw_at lw_m9 134 rfl) rfl
theorem q2216 : (Jvm.Cond.stringRef "StreamQueriesModel" (480 : Nat) "distinct") ∈ lw_tbl := lw_at lw_m9 135 rfl
theorem q2217 : (Jvm.Cond.methodLink "StreamQueriesModel" (417 : Nat) ({ cls := "StreamQueriesModel", name := "begins", desc := "(Z)Z" } : Jvm.MethodName)) ∈ lw_all := lw_g (lw_at lw_m9 136 rfl) rfl
theorem q2218 : (Jvm.Cond.privateMethod ({ cls := "StreamQueriesModel", name := "begins", desc := "(Z)Z" } : Jvm.MethodName)) ∈ lw_tbl := lw_at lw_m9 137 rfl
theorem q2219 : (Jvm.Cond.instanceMethod ({ cls := "StreamQueriesModel", name := "begins", desc := "(Z)Z" } : Jvm.MethodName)) ∈ lw_all := lw_g (lw_at lw_m9 138 rfl) rfl
theorem q2220 : (Jvm.Cond.code ({ cls := "StreamQueriesModel", name := "begins", desc := "(Z)Z" } : Jvm.MethodName) prog_12_method_30_code (5 : Nat) (Option.some Jvm.ClassFile.FieldType.boolean)) ∈ lw_all := lw_g (lw_at lw_m9 139 rfl) rfl
theorem q2221 : (Jvm.Cond.stringRef "StreamQueriesModel" (350 : Nat) "count") ∈ lw_tbl := lw_at lw_m9 140 rfl
theorem q2222 : (Jvm.Cond.stringRef "StreamQueriesModel" (352 : Nat) "sum") ∈ lw_tbl := lw_at lw_m9 141 rfl
theorem q2223 : (Jvm.Cond.stringRef "StreamQueriesModel" (354 : Nat) "min") ∈ lw_tbl := lw_at lw_m9 142 rfl
theorem q2224 : (Jvm.Cond.stringRef "StreamQueriesModel" (356 : Nat) "max") ∈ lw_tbl := lw_at lw_m9 143 rfl
theorem q2225 : (Jvm.Cond.stringRef "StreamQueriesModel" (364 : Nat) "null") ∈ lw_tbl := lw_at lw_m9 144 rfl
theorem q2226 : (Jvm.Cond.stringRef "StreamQueriesModel" (366 : Nat) "true") ∈ lw_tbl := lw_at lw_m9 145 rfl
theorem q2227 : (Jvm.Cond.stringRef "StreamQueriesModel" (368 : Nat) "false") ∈ lw_tbl := lw_at lw_m9 146 rfl
theorem q2228 : (Jvm.Cond.stringRef "StreamQueriesModel" (370 : Nat) "case") ∈ lw_tbl := lw_at lw_m9 147 rfl
theorem q2229 : (Jvm.Cond.stringRef "StreamQueriesModel" (372 : Nat) "span") ∈ lw_tbl := lw_at lw_m9 148 rfl
theorem q2230 : (Jvm.Cond.stringRef "StreamQueriesModel" (374 : Nat) "time") ∈ lw_tbl := lw_at lw_m9 149 rfl
theorem q2231 : (Jvm.Cond.methodLink "StreamQueriesModel" (340 : Nat) ({ cls := "StreamQueriesModel", name := "isTaken", desc := "(I)Z" } : Jvm.MethodName)) ∈ lw_all := lw_g (lw_at lw_m9 150 rfl) rfl
theorem q2232 : (Jvm.Cond.privateMethod ({ cls := "StreamQueriesModel", name := "isTaken", desc := "(I)Z" } : Jvm.MethodName)) ∈ lw_tbl := lw_at lw_m9 151 rfl
theorem q2233 : (Jvm.Cond.instanceMethod ({ cls := "StreamQueriesModel", name := "isTaken", desc := "(I)Z" } : Jvm.MethodName)) ∈ lw_all := lw_g (lw_at lw_m9 152 rfl) rfl
theorem q2234 : (Jvm.Cond.code ({ cls := "StreamQueriesModel", name := "isTaken", desc := "(I)Z" } : Jvm.MethodName) prog_12_method_25_code (6 : Nat) (Option.some Jvm.ClassFile.FieldType.boolean)) ∈ lw_all := lw_g (lw_at lw_m9 153 rfl) rfl
theorem q2235 : (Jvm.Cond.stringRef "StreamQueriesModel" (338 : Nat) " select distinct from join left on where group by having union all except intersect order desc limit as keep case when then else end is not null in and or true false count sum min max span unbounded time ") ∈ lw_tbl := lw_at lw_m9 154 rfl
theorem q2236 : (Jvm.Cond.stringRef "StreamQueriesModel" (376 : Nat) "not") ∈ lw_tbl := lw_at lw_m9 155 rfl
theorem q2237 : (Jvm.Cond.methodLink "StreamQueriesModel" (429 : Nat) ({ cls := "StreamQueriesModel", name := "expr", desc := "()I" } : Jvm.MethodName)) ∈ lw_all := lw_g (lw_at lw_m9 156 rfl) rfl
theorem q2238 : (Jvm.Cond.privateMethod ({ cls := "StreamQueriesModel", name := "expr", desc := "()I" } : Jvm.MethodName)) ∈ lw_tbl := lw_at lw_m9 157 rfl
theorem q2239 : (Jvm.Cond.instanceMethod ({ cls := "StreamQueriesModel", name := "expr", desc := "()I" } : Jvm.MethodName)) ∈ lw_all := lw_g (lw_at lw_m9 158 rfl) rfl
theorem q2240 : (Jvm.Cond.code ({ cls := "StreamQueriesModel", name := "expr", desc := "()I" } : Jvm.MethodName) prog_12_method_32_code (5 : Nat) (Option.some Jvm.ClassFile.FieldType.int)) ∈ lw_all := lw_g (lw_at lw_m9 159 rfl) rfl
theorem q2241 : (Jvm.Cond.methodLink "StreamQueriesModel" (381 : Nat) ({ cls := "StreamQueriesModel", name := "andExpr", desc := "()I" } : Jvm.MethodName)) ∈ lw_all := lw_g (lw_at lw_m9 160 rfl) rfl
theorem q2242 : (Jvm.Cond.privateMethod ({ cls := "StreamQueriesModel", name := "andExpr", desc := "()I" } : Jvm.MethodName)) ∈ lw_tbl := lw_at lw_m9 161 rfl
theorem q2243 : (Jvm.Cond.instanceMethod ({ cls := "StreamQueriesModel", name := "andExpr", desc := "()I" } : Jvm.MethodName)) ∈ lw_all := lw_g (lw_at lw_m9 162 rfl) rfl
theorem q2244 : (Jvm.Cond.code ({ cls := "StreamQueriesModel", name := "andExpr", desc := "()I" } : Jvm.MethodName) prog_12_method_33_code (5 : Nat) (Option.some Jvm.ClassFile.FieldType.int)) ∈ lw_all := lw_g (lw_at lw_m9 163 rfl) rfl
theorem q2245 : (Jvm.Cond.methodLink "StreamQueriesModel" (393 : Nat) ({ cls := "StreamQueriesModel", name := "notExpr", desc := "()I" } : Jvm.MethodName)) ∈ lw_all := lw_g (lw_at lw_m9 164 rfl) rfl
theorem q2246 : (Jvm.Cond.privateMethod ({ cls := "StreamQueriesModel", name := "notExpr", desc := "()I" } : Jvm.MethodName)) ∈ lw_tbl := lw_at lw_m9 165 rfl
theorem q2247 : (Jvm.Cond.instanceMethod ({ cls := "StreamQueriesModel", name := "notExpr", desc := "()I" } : Jvm.MethodName)) ∈ lw_all := lw_g (lw_at lw_m9 166 rfl) rfl
theorem q2248 : (Jvm.Cond.code ({ cls := "StreamQueriesModel", name := "notExpr", desc := "()I" } : Jvm.MethodName) prog_12_method_34_code (3 : Nat) (Option.some Jvm.ClassFile.FieldType.int)) ∈ lw_all := lw_g (lw_at lw_m9 167 rfl) rfl
theorem q2249 : (Jvm.Cond.methodLink "StreamQueriesModel" (398 : Nat) ({ cls := "StreamQueriesModel", name := "test", desc := "()I" } : Jvm.MethodName)) ∈ lw_all := lw_g (lw_at lw_m9 168 rfl) rfl
theorem q2250 : (Jvm.Cond.privateMethod ({ cls := "StreamQueriesModel", name := "test", desc := "()I" } : Jvm.MethodName)) ∈ lw_tbl := lw_at lw_m9 169 rfl
theorem q2251 : (Jvm.Cond.instanceMethod ({ cls := "StreamQueriesModel", name := "test", desc := "()I" } : Jvm.MethodName)) ∈ lw_all := lw_g (lw_at lw_m9 170 rfl) rfl
theorem q2252 : (Jvm.Cond.code ({ cls := "StreamQueriesModel", name := "test", desc := "()I" } : Jvm.MethodName) prog_12_method_35_code (11 : Nat) (Option.some Jvm.ClassFile.FieldType.int)) ∈ lw_all := lw_g (lw_at lw_m9 171 rfl) rfl
theorem q2253 : (Jvm.Cond.methodLink "StreamQueriesModel" (404 : Nat) ({ cls := "StreamQueriesModel", name := "sum", desc := "()I" } : Jvm.MethodName)) ∈ lw_all := lw_g (lw_at lw_m9 172 rfl) rfl
theorem q2254 : (Jvm.Cond.privateMethod ({ cls := "StreamQueriesModel", name := "sum", desc := "()I" } : Jvm.MethodName)) ∈ lw_tbl := lw_at lw_m9 173 rfl
theorem q2255 : (Jvm.Cond.instanceMethod ({ cls := "StreamQueriesModel", name := "sum", desc := "()I" } : Jvm.MethodName)) ∈ lw_all := lw_g (lw_at lw_m9 174 rfl) rfl
theorem q2256 : (Jvm.Cond.code ({ cls := "StreamQueriesModel", name := "sum", desc := "()I" } : Jvm.MethodName) prog_12_method_36_code (6 : Nat) (Option.some Jvm.ClassFile.FieldType.int)) ∈ lw_all := lw_g (lw_at lw_m9 175 rfl) rfl
theorem q2257 : (Jvm.Cond.methodLink "StreamQueriesModel" (420 : Nat) ({ cls := "StreamQueriesModel", name := "part", desc := "()I" } : Jvm.MethodName)) ∈ lw_all := lw_g (lw_at lw_m9 176 rfl) rfl
theorem q2258 : (Jvm.Cond.privateMethod ({ cls := "StreamQueriesModel", name := "part", desc := "()I" } : Jvm.MethodName)) ∈ lw_tbl := lw_at lw_m9 177 rfl
theorem q2259 : (Jvm.Cond.instanceMethod ({ cls := "StreamQueriesModel", name := "part", desc := "()I" } : Jvm.MethodName)) ∈ lw_all := lw_g (lw_at lw_m9 178 rfl) rfl
theorem q2260 : (Jvm.Cond.code ({ cls := "StreamQueriesModel", name := "part", desc := "()I" } : Jvm.MethodName) prog_12_method_37_code (6 : Nat) (Option.some Jvm.ClassFile.FieldType.int)) ∈ lw_all := lw_g (lw_at lw_m9 179 rfl) rfl
theorem q2261 : (Jvm.Cond.methodLink "StreamQueriesModel" (423 : Nat) ({ cls := "StreamQueriesModel", name := "sign", desc := "()I" } : Jvm.MethodName)) ∈ lw_all := lw_g (lw_at lw_m9 180 rfl) rfl
theorem q2262 : (Jvm.Cond.privateMethod ({ cls := "StreamQueriesModel", name := "sign", desc := "()I" } : Jvm.MethodName)) ∈ lw_tbl := lw_at lw_m9 181 rfl
theorem q2263 : (Jvm.Cond.instanceMethod ({ cls := "StreamQueriesModel", name := "sign", desc := "()I" } : Jvm.MethodName)) ∈ lw_all := lw_g (lw_at lw_m9 182 rfl) rfl
theorem q2264 : (Jvm.Cond.code ({ cls := "StreamQueriesModel", name := "sign", desc := "()I" } : Jvm.MethodName) prog_12_method_38_code (3 : Nat) (Option.some Jvm.ClassFile.FieldType.int)) ∈ lw_all := lw_g (lw_at lw_m9 183 rfl) rfl
theorem q2265 : (Jvm.Cond.methodLink "StreamQueriesModel" (332 : Nat) ({ cls := "StreamQueriesModel", name := "isSign", desc := "(I)Z" } : Jvm.MethodName)) ∈ lw_all := lw_g (lw_at lw_m9 184 rfl) rfl
theorem q2266 : (Jvm.Cond.privateMethod ({ cls := "StreamQueriesModel", name := "isSign", desc := "(I)Z" } : Jvm.MethodName)) ∈ lw_tbl := lw_at lw_m9 185 rfl
theorem q2267 : (Jvm.Cond.instanceMethod ({ cls := "StreamQueriesModel", name := "isSign", desc := "(I)Z" } : Jvm.MethodName)) ∈ lw_all := lw_g (lw_at lw_m9 186 rfl) rfl
theorem q2268 : (Jvm.Cond.code ({ cls := "StreamQueriesModel", name := "isSign", desc := "(I)Z" } : Jvm.MethodName) prog_12_method_22_code (2 : Nat) (Option.some Jvm.ClassFile.FieldType.boolean)) ∈ lw_all := lw_g (lw_at lw_m9 187 rfl) rfl
theorem q2269 : (Jvm.Cond.methodLink "StreamQueriesModel" (426 : Nat) ({ cls := "StreamQueriesModel", name := "one", desc := "()I" } : Jvm.MethodName)) ∈ lw_all := lw_g (lw_at lw_m9 188 rfl) rfl
theorem q2270 : (Jvm.Cond.privateMethod ({ cls := "StreamQueriesModel", name := "one", desc := "()I" } : Jvm.MethodName)) ∈ lw_tbl := lw_at lw_m9 189 rfl
theorem q2271 : (Jvm.Cond.instanceMethod ({ cls := "StreamQueriesModel", name := "one", desc := "()I" } : Jvm.MethodName)) ∈ lw_all := lw_g (lw_at lw_m9 190 rfl) rfl
theorem q2272 : (Jvm.Cond.code ({ cls := "StreamQueriesModel", name := "one", desc := "()I" } : Jvm.MethodName) prog_12_method_39_code (6 : Nat) (Option.some Jvm.ClassFile.FieldType.int)) ∈ lw_all := lw_g (lw_at lw_m9 191 rfl) rfl
theorem q2273 : (Jvm.Cond.methodLink "StreamQueriesModel" (389 : Nat) ({ cls := "StreamQueriesModel", name := "make", desc := "(IIIIII)I" } : Jvm.MethodName)) ∈ lw_all := lw_g (lw_at lw_m9 192 rfl) rfl
theorem q2274 : (Jvm.Cond.privateMethod ({ cls := "StreamQueriesModel", name := "make", desc := "(IIIIII)I" } : Jvm.MethodName)) ∈ lw_tbl := lw_at lw_m9 193 rfl
theorem q2275 : (Jvm.Cond.instanceMethod ({ cls := "StreamQueriesModel", name := "make", desc := "(IIIIII)I" } : Jvm.MethodName)) ∈ lw_all := lw_g (lw_at lw_m9 194 rfl) rfl
theorem q2276 : (Jvm.Cond.code ({ cls := "StreamQueriesModel", name := "make", desc := "(IIIIII)I" } : Jvm.MethodName) prog_12_method_31_code (8 : Nat) (Option.some Jvm.ClassFile.FieldType.int)) ∈ lw_all := lw_g (lw_at lw_m9 195 rfl) rfl
theorem q2277 : (Jvm.Cond.methodLink "StreamQueriesModel" (401 : Nat) ({ cls := "StreamQueriesModel", name := "deeper", desc := "(I)V" } : Jvm.MethodName)) ∈ lw_all := lw_g (lw_at lw_m9 196 rfl) rfl
theorem q2278 : (Jvm.Cond.privateMethod ({ cls := "StreamQueriesModel", name := "deeper", desc := "(I)V" } : Jvm.MethodName)) ∈ lw_tbl := lw_at lw_m9 197 rfl
theorem q2279 : (Jvm.Cond.instanceMethod ({ cls := "StreamQueriesModel", name := "deeper", desc := "(I)V" } : Jvm.MethodName)) ∈ lw_all := lw_g (lw_at lw_m9 198 rfl) rfl
theorem q2280 : (Jvm.Cond.code ({ cls := "StreamQueriesModel", name := "deeper", desc := "(I)V" } : Jvm.MethodName) prog_12_method_29_code (2 : Nat) (Option.none : Option Jvm.ClassFile.FieldType)) ∈ lw_all := lw_g (lw_at lw_m9 199 rfl) rfl
theorem q2281 : (Jvm.Cond.methodLink "StreamQueriesModel" (414 : Nat) ({ cls := "StreamQueriesModel", name := "needSign", desc := "(I)V" } : Jvm.MethodName)) ∈ lw_all := lw_g (lw_at lw_m9 200 rfl) rfl
theorem q2282 : (Jvm.Cond.privateMethod ({ cls := "StreamQueriesModel", name := "needSign", desc := "(I)V" } : Jvm.MethodName)) ∈ lw_tbl := lw_at lw_m9 201 rfl
theorem q2283 : (Jvm.Cond.instanceMethod ({ cls := "StreamQueriesModel", name := "needSign", desc := "(I)V" } : Jvm.MethodName)) ∈ lw_all := lw_g (lw_at lw_m9 202 rfl) rfl
theorem q2284 : (Jvm.Cond.code ({ cls := "StreamQueriesModel", name := "needSign", desc := "(I)V" } : Jvm.MethodName) prog_12_method_24_code (2 : Nat) (Option.none : Option Jvm.ClassFile.FieldType)) ∈ lw_all := lw_g (lw_at lw_m9 203 rfl) rfl
theorem q2285 : (Jvm.Cond.methodLink "StreamQueriesModel" (335 : Nat) ({ cls := "StreamQueriesModel", name := "takeSign", desc := "(I)Z" } : Jvm.MethodName)) ∈ lw_all := lw_g (lw_at lw_m9 204 rfl) rfl
theorem q2286 : (Jvm.Cond.privateMethod ({ cls := "StreamQueriesModel", name := "takeSign", desc := "(I)Z" } : Jvm.MethodName)) ∈ lw_tbl := lw_at lw_m9 205 rfl
theorem q2287 : (Jvm.Cond.instanceMethod ({ cls := "StreamQueriesModel", name := "takeSign", desc := "(I)Z" } : Jvm.MethodName)) ∈ lw_all := lw_g (lw_at lw_m9 206 rfl) rfl
theorem q2288 : (Jvm.Cond.code ({ cls := "StreamQueriesModel", name := "takeSign", desc := "(I)Z" } : Jvm.MethodName) prog_12_method_23_code (3 : Nat) (Option.some Jvm.ClassFile.FieldType.boolean)) ∈ lw_all := lw_g (lw_at lw_m9 207 rfl) rfl
theorem q2289 : (Jvm.Cond.stringRef "StreamQueriesModel" (432 : Nat) "when") ∈ lw_tbl := lw_at lw_m9 208 rfl
theorem q2290 : (Jvm.Cond.stringRef "StreamQueriesModel" (434 : Nat) "then") ∈ lw_tbl := lw_at lw_m9 209 rfl
theorem q2291 : (Jvm.Cond.stringRef "StreamQueriesModel" (436 : Nat) "else") ∈ lw_tbl := lw_at lw_m9 210 rfl
theorem q2292 : (Jvm.Cond.stringRef "StreamQueriesModel" (438 : Nat) "end") ∈ lw_tbl := lw_at lw_m9 211 rfl
theorem q2293 : (Jvm.Cond.methodLink "StreamQueriesModel" (440 : Nat) ({ cls := "StreamQueriesModel", name := "aggregate", desc := "(I)I" } : Jvm.MethodName)) ∈ lw_all := lw_g (lw_at lw_m9 212 rfl) rfl
theorem q2294 : (Jvm.Cond.privateMethod ({ cls := "StreamQueriesModel", name := "aggregate", desc := "(I)I" } : Jvm.MethodName)) ∈ lw_tbl := lw_at lw_m9 213 rfl
theorem q2295 : (Jvm.Cond.instanceMethod ({ cls := "StreamQueriesModel", name := "aggregate", desc := "(I)I" } : Jvm.MethodName)) ∈ lw_all := lw_g (lw_at lw_m9 214 rfl) rfl
theorem q2296 : (Jvm.Cond.code ({ cls := "StreamQueriesModel", name := "aggregate", desc := "(I)I" } : Jvm.MethodName) prog_12_method_40_code (4 : Nat) (Option.some Jvm.ClassFile.FieldType.int)) ∈ lw_all := lw_g (lw_at lw_m9 215 rfl) rfl
theorem q2297 : (Jvm.Cond.methodLink "StreamQueriesModel" (444 : Nat) ({ cls := "StreamQueriesModel", name := "columnOf", desc := "(I)I" } : Jvm.MethodName)) ∈ lw_all := lw_g (lw_at lw_m9 216 rfl) rfl
theorem q2298 : (Jvm.Cond.privateMethod ({ cls := "StreamQueriesModel", name := "columnOf", desc := "(I)I" } : Jvm.MethodName)) ∈ lw_tbl := lw_at lw_m9 217 rfl
theorem q2299 : (Jvm.Cond.instanceMethod ({ cls := "StreamQueriesModel", name := "columnOf", desc := "(I)I" } : Jvm.MethodName)) ∈ lw_all := lw_g (lw_at lw_m9 218 rfl) rfl
theorem q2300 : (Jvm.Cond.code ({ cls := "StreamQueriesModel", name := "columnOf", desc := "(I)I" } : Jvm.MethodName) prog_12_method_41_code (5 : Nat) (Option.some Jvm.ClassFile.FieldType.int)) ∈ lw_all := lw_g (lw_at lw_m9 219 rfl) rfl
theorem q2301 : (Jvm.Cond.methodLink "StreamQueriesModel" (450 : Nat) ({ cls := "StreamQueriesModel", name := "name", desc := "()I" } : Jvm.MethodName)) ∈ lw_all := lw_g (lw_at lw_m9 220 rfl) rfl
theorem q2302 : (Jvm.Cond.privateMethod ({ cls := "StreamQueriesModel", name := "name", desc := "()I" } : Jvm.MethodName)) ∈ lw_tbl := lw_at lw_m9 221 rfl
theorem q2303 : (Jvm.Cond.instanceMethod ({ cls := "StreamQueriesModel", name := "name", desc := "()I" } : Jvm.MethodName)) ∈ lw_all := lw_g (lw_at lw_m9 222 rfl) rfl
theorem q2304 : (Jvm.Cond.code ({ cls := "StreamQueriesModel", name := "name", desc := "()I" } : Jvm.MethodName) prog_12_method_27_code (1 : Nat) (Option.some Jvm.ClassFile.FieldType.int)) ∈ lw_all := lw_g (lw_at lw_m9 223 rfl) rfl
theorem q2305 : (Jvm.Cond.methodLink "StreamQueriesModel" (343 : Nat) ({ cls := "StreamQueriesModel", name := "isName", desc := "()Z" } : Jvm.MethodName)) ∈ lw_all := lw_g (lw_at lw_m9 224 rfl) rfl
theorem q2306 : (Jvm.Cond.privateMethod ({ cls := "StreamQueriesModel", name := "isName", desc := "()Z" } : Jvm.MethodName)) ∈ lw_tbl := lw_at lw_m9 225 rfl
theorem q2307 : (Jvm.Cond.instanceMethod ({ cls := "StreamQueriesModel", name := "isName", desc := "()Z" } : Jvm.MethodName)) ∈ lw_all := lw_g (lw_at lw_m9 226 rfl) rfl
theorem q2308 : (Jvm.Cond.code ({ cls := "StreamQueriesModel", name := "isName", desc := "()Z" } : Jvm.MethodName) prog_12_method_26_code (1 : Nat) (Option.some Jvm.ClassFile.FieldType.boolean)) ∈ lw_all := lw_g (lw_at lw_m9 227 rfl) rfl
theorem q2309 : (Jvm.Cond.stringRef "StreamQueriesModel" (406 : Nat) "is") ∈ lw_tbl := lw_at lw_m9 228 rfl
theorem q2310 : (Jvm.Cond.stringRef "StreamQueriesModel" (412 : Nat) "in") ∈ lw_tbl := lw_at lw_m9 229 rfl
theorem q2311 : (Jvm.Cond.stringRef "StreamQueriesModel" (396 : Nat) "and") ∈ lw_tbl := lw_at lw_m9 230 rfl
theorem q2312 : (Jvm.Cond.stringRef "StreamQueriesModel" (387 : Nat) "or") ∈ lw_tbl := lw_at lw_m9 231 rfl
theorem q2313 : (Jvm.Cond.stringRef "StreamQueriesModel" (482 : Nat) "as") ∈ lw_tbl := lw_at lw_m9 232 rfl
theorem q2314 : (Jvm.Cond.stringRef "StreamQueriesModel" (484 : Nat) "from") ∈ lw_tbl := lw_at lw_m9 233 rfl
theorem q2315 : (Jvm.Cond.methodLink "StreamQueriesModel" (486 : Nat) ({ cls := "StreamQueriesModel", name := "source", desc := "(IZI)V" } : Jvm.MethodName)) ∈ lw_all := lw_g (lw_at lw_m9 234 rfl) rfl
theorem q2316 : (Jvm.Cond.privateMethod ({ cls := "StreamQueriesModel", name := "source", desc := "(IZI)V" } : Jvm.MethodName)) ∈ lw_tbl := lw_at lw_m9 235 rfl
theorem q2317 : (Jvm.Cond.instanceMethod ({ cls := "StreamQueriesModel", name := "source", desc := "(IZI)V" } : Jvm.MethodName)) ∈ lw_all := lw_g (lw_at lw_m9 236 rfl) rfl
theorem q2318 : (Jvm.Cond.code ({ cls := "StreamQueriesModel", name := "source", desc := "(IZI)V" } : Jvm.MethodName) prog_12_method_44_code (7 : Nat) (Option.none : Option Jvm.ClassFile.FieldType)) ∈ lw_all := lw_g (lw_at lw_m9 237 rfl) rfl
theorem q2319 : (Jvm.Cond.stringRef "StreamQueriesModel" (506 : Nat) "keep") ∈ lw_tbl := lw_at lw_m9 238 rfl
theorem q2320 : (Jvm.Cond.stringRef "StreamQueriesModel" (490 : Nat) "join") ∈ lw_tbl := lw_at lw_m9 239 rfl
theorem q2321 : (Jvm.Cond.stringRef "StreamQueriesModel" (492 : Nat) "left") ∈ lw_tbl := lw_at lw_m10 0 rfl
theorem q2322 : (Jvm.Cond.stringRef "StreamQueriesModel" (493 : Nat) "on") ∈ lw_tbl := lw_at lw_m10 1 rfl
theorem q2323 : (Jvm.Cond.stringRef "StreamQueriesModel" (495 : Nat) "where") ∈ lw_tbl := lw_at lw_m10 2 rfl
theorem q2324 : (Jvm.Cond.stringRef "StreamQueriesModel" (497 : Nat) "group") ∈ lw_tbl := lw_at lw_m10 3 rfl
theorem q2325 : (Jvm.Cond.stringRef "StreamQueriesModel" (468 : Nat) "by") ∈ lw_tbl := lw_at lw_m10 4 rfl
theorem q2326 : (Jvm.Cond.stringRef "StreamQueriesModel" (498 : Nat) "having") ∈ lw_tbl := lw_at lw_m10 5 rfl
theorem q2327 : (Jvm.Cond.stringRef "StreamQueriesModel" (459 : Nat) "union") ∈ lw_tbl := lw_at lw_m10 6 rfl
theorem q2328 : (Jvm.Cond.stringRef "StreamQueriesModel" (461 : Nat) "all") ∈ lw_tbl := lw_at lw_m10 7 rfl
theorem q2329 : (Jvm.Cond.stringRef "StreamQueriesModel" (463 : Nat) "except") ∈ lw_tbl := lw_at lw_m10 8 rfl
theorem q2330 : (Jvm.Cond.stringRef "StreamQueriesModel" (465 : Nat) "intersect") ∈ lw_tbl := lw_at lw_m10 9 rfl
theorem q2331 : (Jvm.Cond.stringRef "StreamQueriesModel" (467 : Nat) "order") ∈ lw_tbl := lw_at lw_m10 10 rfl
theorem q2332 : (Jvm.Cond.stringRef "StreamQueriesModel" (470 : Nat) "desc") ∈ lw_tbl := lw_at lw_m10 11 rfl
theorem q2333 : (Jvm.Cond.stringRef "StreamQueriesModel" (472 : Nat) "limit") ∈ lw_tbl := lw_at lw_m10 12 rfl
theorem q2334 : (Jvm.Cond.constantLong "StreamQueriesModel" (474 : Nat) (100 : Int64)) ∈ lw_all := lw_g (lw_at lw_m10 13 rfl) rfl
theorem q2335 : (Jvm.Cond.methodLink "StreamQueriesModel" (562 : Nat) ({ cls := "StreamQueriesModel", name := "judgeQuery", desc := "(I)V" } : Jvm.MethodName)) ∈ lw_all := lw_g (lw_at lw_m10 14 rfl) rfl
theorem q2336 : (Jvm.Cond.privateMethod ({ cls := "StreamQueriesModel", name := "judgeQuery", desc := "(I)V" } : Jvm.MethodName)) ∈ lw_tbl := lw_at lw_m10 15 rfl
theorem q2337 : (Jvm.Cond.instanceMethod ({ cls := "StreamQueriesModel", name := "judgeQuery", desc := "(I)V" } : Jvm.MethodName)) ∈ lw_all := lw_g (lw_at lw_m10 16 rfl) rfl
theorem q2338 : (Jvm.Cond.code ({ cls := "StreamQueriesModel", name := "judgeQuery", desc := "(I)V" } : Jvm.MethodName) prog_12_method_56_code (9 : Nat) (Option.none : Option Jvm.ClassFile.FieldType)) ∈ lw_all := lw_g (lw_at lw_m10 17 rfl) rfl
theorem q2339 : (Jvm.Cond.methodLink "StreamQueriesModel" (555 : Nat) ({ cls := "StreamQueriesModel", name := "judgeSelect", desc := "(I)V" } : Jvm.MethodName)) ∈ lw_all := lw_g (lw_at lw_m10 18 rfl) rfl
theorem q2340 : (Jvm.Cond.privateMethod ({ cls := "StreamQueriesModel", name := "judgeSelect", desc := "(I)V" } : Jvm.MethodName)) ∈ lw_tbl := lw_at lw_m10 19 rfl
theorem q2341 : (Jvm.Cond.instanceMethod ({ cls := "StreamQueriesModel", name := "judgeSelect", desc := "(I)V" } : Jvm.MethodName)) ∈ lw_all := lw_g (lw_at lw_m10 20 rfl) rfl
theorem q2342 : (Jvm.Cond.code ({ cls := "StreamQueriesModel", name := "judgeSelect", desc := "(I)V" } : Jvm.MethodName) prog_12_method_58_code (7 : Nat) (Option.none : Option Jvm.ClassFile.FieldType)) ∈ lw_all := lw_g (lw_at lw_m10 21 rfl) rfl
theorem q2343 : (Jvm.Cond.methodLink "StreamQueriesModel" (565 : Nat) ({ cls := "StreamQueriesModel", name := "areNamed", desc := "(I)Z" } : Jvm.MethodName)) ∈ lw_all := lw_g (lw_at lw_m10 22 rfl) rfl
theorem q2344 : (Jvm.Cond.privateMethod ({ cls := "StreamQueriesModel", name := "areNamed", desc := "(I)Z" } : Jvm.MethodName)) ∈ lw_tbl := lw_at lw_m10 23 rfl
theorem q2345 : (Jvm.Cond.instanceMethod ({ cls := "StreamQueriesModel", name := "areNamed", desc := "(I)Z" } : Jvm.MethodName)) ∈ lw_all := lw_g (lw_at lw_m10 24 rfl) rfl
theorem q2346 : (Jvm.Cond.code ({ cls := "StreamQueriesModel", name := "areNamed", desc := "(I)Z" } : Jvm.MethodName) prog_12_method_60_code (5 : Nat) (Option.some Jvm.ClassFile.FieldType.boolean)) ∈ lw_all := lw_g (lw_at lw_m10 25 rfl) rfl
theorem q2347 : (Jvm.Cond.methodLink "StreamQueriesModel" (508 : Nat) ({ cls := "StreamQueriesModel", name := "isSame", desc := "(II)Z" } : Jvm.MethodName)) ∈ lw_all := lw_g (lw_at lw_m10 26 rfl) rfl
theorem q2348 : (Jvm.Cond.privateMethod ({ cls := "StreamQueriesModel", name := "isSame", desc := "(II)Z" } : Jvm.MethodName)) ∈ lw_tbl := lw_at lw_m10 27 rfl
theorem q2349 : (Jvm.Cond.instanceMethod ({ cls := "StreamQueriesModel", name := "isSame", desc := "(II)Z" } : Jvm.MethodName)) ∈ lw_all := lw_g (lw_at lw_m10 28 rfl) rfl
theorem q2350 : (Jvm.Cond.code ({ cls := "StreamQueriesModel", name := "isSame", desc := "(II)Z" } : Jvm.MethodName) prog_12_method_28_code (4 : Nat) (Option.some Jvm.ClassFile.FieldType.boolean)) ∈ lw_all := lw_g (lw_at lw_m10 29 rfl) rfl
theorem q2351 : (Jvm.Cond.methodLink "StreamQueriesModel" (521 : Nat) ({ cls := "StreamQueriesModel", name := "columnsOf", desc := "(I)I" } : Jvm.MethodName)) ∈ lw_all := lw_g (lw_at lw_m10 30 rfl) rfl
theorem q2352 : (Jvm.Cond.privateMethod ({ cls := "StreamQueriesModel", name := "columnsOf", desc := "(I)I" } : Jvm.MethodName)) ∈ lw_tbl := lw_at lw_m10 31 rfl
theorem q2353 : (Jvm.Cond.instanceMethod ({ cls := "StreamQueriesModel", name := "columnsOf", desc := "(I)I" } : Jvm.MethodName)) ∈ lw_all := lw_g (lw_at lw_m10 32 rfl) rfl
theorem q2354 : (Jvm.Cond.code ({ cls := "StreamQueriesModel", name := "columnsOf", desc := "(I)I" } : Jvm.MethodName) prog_12_method_47_code (2 : Nat) (Option.some Jvm.ClassFile.FieldType.int)) ∈ lw_all := lw_g (lw_at lw_m10 33 rfl) rfl
theorem q2355 : (Jvm.Cond.methodLink "StreamQueriesModel" (549 : Nat) ({ cls := "StreamQueriesModel", name := "isKeptSelect", desc := "(II)Z" } : Jvm.MethodName)) ∈ lw_all := lw_g (lw_at lw_m10 34 rfl) rfl
theorem q2356 : (Jvm.Cond.privateMethod ({ cls := "StreamQueriesModel", name := "isKeptSelect", desc := "(II)Z" } : Jvm.MethodName)) ∈ lw_tbl := lw_at lw_m10 35 rfl
theorem q2357 : (Jvm.Cond.instanceMethod ({ cls := "StreamQueriesModel", name := "isKeptSelect", desc := "(II)Z" } : Jvm.MethodName)) ∈ lw_all := lw_g (lw_at lw_m10 36 rfl) rfl
theorem q2358 : (Jvm.Cond.code ({ cls := "StreamQueriesModel", name := "isKeptSelect", desc := "(II)Z" } : Jvm.MethodName) prog_12_method_53_code (4 : Nat) (Option.some Jvm.ClassFile.FieldType.boolean)) ∈ lw_all := lw_g (lw_at lw_m10 37 rfl) rfl
theorem q2359 : (Jvm.Cond.methodLink "StreamQueriesModel" (546 : Nat) ({ cls := "StreamQueriesModel", name := "isKept", desc := "(I)Z" } : Jvm.MethodName)) ∈ lw_all := lw_g (lw_at lw_m10 38 rfl) rfl
theorem q2360 : (Jvm.Cond.privateMethod ({ cls := "StreamQueriesModel", name := "isKept", desc := "(I)Z" } : Jvm.MethodName)) ∈ lw_tbl := lw_at lw_m10 39 rfl
theorem q2361 : (Jvm.Cond.instanceMethod ({ cls := "StreamQueriesModel", name := "isKept", desc := "(I)Z" } : Jvm.MethodName)) ∈ lw_all := lw_g (lw_at lw_m10 40 rfl) rfl
theorem q2362 : (Jvm.Cond.code ({ cls := "StreamQueriesModel", name := "isKept", desc := "(I)Z" } : Jvm.MethodName) prog_12_method_52_code (2 : Nat) (Option.some Jvm.ClassFile.FieldType.boolean)) ∈ lw_all := lw_g (lw_at lw_m10 41 rfl) rfl
theorem q2363 : (Jvm.Cond.methodLink "StreamQueriesModel" (543 : Nat) ({ cls := "StreamQueriesModel", name := "isKeptQuery", desc := "(I)Z" } : Jvm.MethodName)) ∈ lw_all := lw_g (lw_at lw_m10 42 rfl) rfl
theorem q2364 : (Jvm.Cond.privateMethod ({ cls := "StreamQueriesModel", name := "isKeptQuery", desc := "(I)Z" } : Jvm.MethodName)) ∈ lw_tbl := lw_at lw_m10 43 rfl
theorem q2365 : (Jvm.Cond.instanceMethod ({ cls := "StreamQueriesModel", name := "isKeptQuery", desc := "(I)Z" } : Jvm.MethodName)) ∈ lw_all := lw_g (lw_at lw_m10 44 rfl) rfl
theorem q2366 : (Jvm.Cond.code ({ cls := "StreamQueriesModel", name := "isKeptQuery", desc := "(I)Z" } : Jvm.MethodName) prog_12_method_54_code (4 : Nat) (Option.some Jvm.ClassFile.FieldType.boolean)) ∈ lw_all := lw_g (lw_at lw_m10 45 rfl) rfl
theorem q2367 : (Jvm.Cond.methodLink "StreamQueriesModel" (558 : Nat) ({ cls := "StreamQueriesModel", name := "bounded", desc := "(ZI)V" } : Jvm.MethodName)) ∈ lw_all := lw_g (lw_at lw_m10 46 rfl) rfl
theorem q2368 : (Jvm.Cond.privateMethod ({ cls := "StreamQueriesModel", name := "bounded", desc := "(ZI)V" } : Jvm.MethodName)) ∈ lw_tbl := lw_at lw_m10 47 rfl
theorem q2369 : (Jvm.Cond.instanceMethod ({ cls := "StreamQueriesModel", name := "bounded", desc := "(ZI)V" } : Jvm.MethodName)) ∈ lw_all := lw_g (lw_at lw_m10 48 rfl) rfl
theorem q2370 : (Jvm.Cond.code ({ cls := "StreamQueriesModel", name := "bounded", desc := "(ZI)V" } : Jvm.MethodName) prog_12_method_55_code (3 : Nat) (Option.none : Option Jvm.ClassFile.FieldType)) ∈ lw_all := lw_g (lw_at lw_m10 49 rfl) rfl
theorem q2371 : (Jvm.Cond.methodLink "StreamQueriesModel" (568 : Nat) ({ cls := "StreamQueriesModel", name := "sourcesOf", desc := "(II)V" } : Jvm.MethodName)) ∈ lw_all := lw_g (lw_at lw_m10 50 rfl) rfl
theorem q2372 : (Jvm.Cond.privateMethod ({ cls := "StreamQueriesModel", name := "sourcesOf", desc := "(II)V" } : Jvm.MethodName)) ∈ lw_tbl := lw_at lw_m10 51 rfl
theorem q2373 : (Jvm.Cond.instanceMethod ({ cls := "StreamQueriesModel", name := "sourcesOf", desc := "(II)V" } : Jvm.MethodName)) ∈ lw_all := lw_g (lw_at lw_m10 52 rfl) rfl
theorem q2374 : (Jvm.Cond.code ({ cls := "StreamQueriesModel", name := "sourcesOf", desc := "(II)V" } : Jvm.MethodName) prog_12_method_57_code (3 : Nat) (Option.none : Option Jvm.ClassFile.FieldType)) ∈ lw_all := lw_g (lw_at lw_m10 53 rfl) rfl
theorem q2375 : (Jvm.Cond.methodLink "StreamQueriesModel" (537 : Nat) ({ cls := "StreamQueriesModel", name := "judge", desc := "(I)V" } : Jvm.MethodName)) ∈ lw_all := lw_g (lw_at lw_m10 54 rfl) rfl
theorem q2376 : (Jvm.Cond.privateMethod ({ cls := "StreamQueriesModel", name := "judge", desc := "(I)V" } : Jvm.MethodName)) ∈ lw_tbl := lw_at lw_m10 55 rfl
theorem q2377 : (Jvm.Cond.instanceMethod ({ cls := "StreamQueriesModel", name := "judge", desc := "(I)V" } : Jvm.MethodName)) ∈ lw_all := lw_g (lw_at lw_m10 56 rfl) rfl
theorem q2378 : (Jvm.Cond.code ({ cls := "StreamQueriesModel", name := "judge", desc := "(I)V" } : Jvm.MethodName) prog_12_method_51_code (6 : Nat) (Option.none : Option Jvm.ClassFile.FieldType)) ∈ lw_all := lw_g (lw_at lw_m10 57 rfl) rfl
theorem q2379 : (Jvm.Cond.methodLink "StreamQueriesModel" (534 : Nat) ({ cls := "StreamQueriesModel", name := "find", desc := "(I)I" } : Jvm.MethodName)) ∈ lw_all := lw_g (lw_at lw_m10 58 rfl) rfl
theorem q2380 : (Jvm.Cond.privateMethod ({ cls := "StreamQueriesModel", name := "find", desc := "(I)I" } : Jvm.MethodName)) ∈ lw_tbl := lw_at lw_m10 59 rfl
theorem q2381 : (Jvm.Cond.instanceMethod ({ cls := "StreamQueriesModel", name := "find", desc := "(I)I" } : Jvm.MethodName)) ∈ lw_all := lw_g (lw_at lw_m10 60 rfl) rfl
theorem q2382 : (Jvm.Cond.code ({ cls := "StreamQueriesModel", name := "find", desc := "(I)I" } : Jvm.MethodName) prog_12_method_49_code (10 : Nat) (Option.some Jvm.ClassFile.FieldType.int)) ∈ lw_all := lw_g (lw_at lw_m10 61 rfl) rfl
theorem q2383 : (Jvm.Cond.methodLink "StreamQueriesModel" (524 : Nat) ({ cls := "StreamQueriesModel", name := "nameOf", desc := "(II)I" } : Jvm.MethodName)) ∈ lw_all := lw_g (lw_at lw_m10 62 rfl) rfl
theorem q2384 : (Jvm.Cond.privateMethod ({ cls := "StreamQueriesModel", name := "nameOf", desc := "(II)I" } : Jvm.MethodName)) ∈ lw_tbl := lw_at lw_m10 63 rfl
theorem q2385 : (Jvm.Cond.instanceMethod ({ cls := "StreamQueriesModel", name := "nameOf", desc := "(II)I" } : Jvm.MethodName)) ∈ lw_all := lw_g (lw_at lw_m10 64 rfl) rfl
theorem q2386 : (Jvm.Cond.code ({ cls := "StreamQueriesModel", name := "nameOf", desc := "(II)I" } : Jvm.MethodName) prog_12_method_45_code (3 : Nat) (Option.some Jvm.ClassFile.FieldType.int)) ∈ lw_all := lw_g (lw_at lw_m10 65 rfl) rfl
theorem q2387 : (Jvm.Cond.methodLink "StreamQueriesModel" (528 : Nat) ({ cls := "StreamQueriesModel", name := "isNamed", desc := "(II)Z" } : Jvm.MethodName)) ∈ lw_all := lw_g (lw_at lw_m10 66 rfl) rfl
theorem q2388 : (Jvm.Cond.privateMethod ({ cls := "StreamQueriesModel", name := "isNamed", desc := "(II)Z" } : Jvm.MethodName)) ∈ lw_tbl := lw_at lw_m10 67 rfl
theorem q2389 : (Jvm.Cond.instanceMethod ({ cls := "StreamQueriesModel", name := "isNamed", desc := "(II)Z" } : Jvm.MethodName)) ∈ lw_all := lw_g (lw_at lw_m10 68 rfl) rfl
theorem q2390 : (Jvm.Cond.code ({ cls := "StreamQueriesModel", name := "isNamed", desc := "(II)Z" } : Jvm.MethodName) prog_12_method_48_code (3 : Nat) (Option.some Jvm.ClassFile.FieldType.boolean)) ∈ lw_all := lw_g (lw_at lw_m10 69 rfl) rfl
theorem q2391 : (Jvm.Cond.methodLink "StreamQueriesModel" (531 : Nat) ({ cls := "StreamQueriesModel", name := "typeOf", desc := "(II)I" } : Jvm.MethodName)) ∈ lw_all := lw_g (lw_at lw_m10 70 rfl) rfl
theorem q2392 : (Jvm.Cond.privateMethod ({ cls := "StreamQueriesModel", name := "typeOf", desc := "(II)I" } : Jvm.MethodName)) ∈ lw_tbl := lw_at lw_m10 71 rfl
theorem q2393 : (Jvm.Cond.instanceMethod ({ cls := "StreamQueriesModel", name := "typeOf", desc := "(II)I" } : Jvm.MethodName)) ∈ lw_all := lw_g (lw_at lw_m10 72 rfl) rfl
theorem q2394 : (Jvm.Cond.code ({ cls := "StreamQueriesModel", name := "typeOf", desc := "(II)I" } : Jvm.MethodName) prog_12_method_46_code (3 : Nat) (Option.some Jvm.ClassFile.FieldType.int)) ∈ lw_all := lw_g (lw_at lw_m10 73 rfl) rfl
theorem q2395 : (Jvm.Cond.methodLink "StreamQueriesModel" (540 : Nat) ({ cls := "StreamQueriesModel", name := "want", desc := "(II)V" } : Jvm.MethodName)) ∈ lw_all := lw_g (lw_at lw_m10 74 rfl) rfl
theorem q2396 : (Jvm.Cond.privateMethod ({ cls := "StreamQueriesModel", name := "want", desc := "(II)V" } : Jvm.MethodName)) ∈ lw_tbl := lw_at lw_m10 75 rfl
theorem q2397 : (Jvm.Cond.instanceMethod ({ cls := "StreamQueriesModel", name := "want", desc := "(II)V" } : Jvm.MethodName)) ∈ lw_all := lw_g (lw_at lw_m10 76 rfl) rfl
theorem q2398 : (Jvm.Cond.code ({ cls := "StreamQueriesModel", name := "want", desc := "(II)V" } : Jvm.MethodName) prog_12_method_50_code (3 : Nat) (Option.none : Option Jvm.ClassFile.FieldType)) ∈ lw_all := lw_g (lw_at lw_m10 77 rfl) rfl
theorem q2400 : (Jvm.Cond.instanceMethod ({ cls := "StreamQueriesModel", name := "fault", desc := "()I" } : Jvm.MethodName)) ∈ lw_all := lw_g (lw_at lw_m10 79 rfl) rfl
theorem q2401 : (Jvm.Cond.selects "StreamQueriesModel" ({ cls := "StreamQueriesModel", name := "fault", desc := "()I" } : Jvm.MethodName) ({ cls := "StreamQueriesModel", name := "fault", desc := "()I" } : Jvm.MethodName)) ∈ lw_all := lw_g (lw_at lw_m10 80 rfl) rfl
theorem q2402 : (Jvm.Cond.code ({ cls := "StreamQueriesModel", name := "fault", desc := "()I" } : Jvm.MethodName) prog_12_method_63_code (1 : Nat) (Option.some Jvm.ClassFile.FieldType.int)) ∈ lw_all := lw_g (lw_at lw_m10 81 rfl) rfl
theorem q2404 : (Jvm.Cond.instanceMethod ({ cls := "StreamQueriesModel", name := "changes", desc := "()I" } : Jvm.MethodName)) ∈ lw_all := lw_g (lw_at lw_m10 83 rfl) rfl
theorem q2405 : (Jvm.Cond.selects "StreamQueriesModel" ({ cls := "StreamQueriesModel", name := "changes", desc := "()I" } : Jvm.MethodName) ({ cls := "StreamQueriesModel", name := "changes", desc := "()I" } : Jvm.MethodName)) ∈ lw_all := lw_g (lw_at lw_m10 84 rfl) rfl
theorem q2406 : (Jvm.Cond.code ({ cls := "StreamQueriesModel", name := "changes", desc := "()I" } : Jvm.MethodName) prog_12_method_98_code (1 : Nat) (Option.some Jvm.ClassFile.FieldType.int)) ∈ lw_all := lw_g (lw_at lw_m10 85 rfl) rfl
theorem q2408 : (Jvm.Cond.instanceMethod ({ cls := "StreamQueriesModel", name := "change", desc := "(I)I" } : Jvm.MethodName)) ∈ lw_all := lw_g (lw_at lw_m10 87 rfl) rfl
theorem q2409 : (Jvm.Cond.selects "StreamQueriesModel" ({ cls := "StreamQueriesModel", name := "change", desc := "(I)I" } : Jvm.MethodName) ({ cls := "StreamQueriesModel", name := "change", desc := "(I)I" } : Jvm.MethodName)) ∈ lw_all := lw_g (lw_at lw_m10 88 rfl) rfl
theorem q2410 : (Jvm.Cond.code ({ cls := "StreamQueriesModel", name := "change", desc := "(I)I" } : Jvm.MethodName) prog_12_method_100_code (2 : Nat) (Option.some Jvm.ClassFile.FieldType.int)) ∈ lw_all := lw_g (lw_at lw_m10 89 rfl) rfl
theorem q2412 : (Jvm.Cond.instanceMethod ({ cls := "StreamQueriesModel", name := "changed", desc := "(II)J" } : Jvm.MethodName)) ∈ lw_all := lw_g (lw_at lw_m10 91 rfl) rfl
theorem q2413 : (Jvm.Cond.selects "StreamQueriesModel" ({ cls := "StreamQueriesModel", name := "changed", desc := "(II)J" } : Jvm.MethodName) ({ cls := "StreamQueriesModel", name := "changed", desc := "(II)J" } : Jvm.MethodName)) ∈ lw_all := lw_g (lw_at lw_m10 92 rfl) rfl
theorem q2414 : (Jvm.Cond.code ({ cls := "StreamQueriesModel", name := "changed", desc := "(II)J" } : Jvm.MethodName) prog_12_method_101_code (3 : Nat) (Option.some Jvm.ClassFile.FieldType.long)) ∈ lw_all := lw_g (lw_at lw_m10 93 rfl) rfl
theorem q2415 : (Jvm.Cond.methodLink "StreamQueriesModel" (737 : Nat) ({ cls := "StreamQueriesModel", name := "isChange", desc := "(II)Z" } : Jvm.MethodName)) ∈ lw_all := lw_g (lw_at lw_m10 94 rfl) rfl
theorem q2416 : (Jvm.Cond.privateMethod ({ cls := "StreamQueriesModel", name := "isChange", desc := "(II)Z" } : Jvm.MethodName)) ∈ lw_tbl := lw_at lw_m10 95 rfl
theorem q2417 : (Jvm.Cond.instanceMethod ({ cls := "StreamQueriesModel", name := "isChange", desc := "(II)Z" } : Jvm.MethodName)) ∈ lw_all := lw_g (lw_at lw_m10 96 rfl) rfl
theorem q2418 : (Jvm.Cond.code ({ cls := "StreamQueriesModel", name := "isChange", desc := "(II)Z" } : Jvm.MethodName) prog_12_method_99_code (3 : Nat) (Option.some Jvm.ClassFile.FieldType.boolean)) ∈ lw_all := lw_g (lw_at lw_m10 97 rfl) rfl
theorem q2420 : (Jvm.Cond.instanceMethod ({ cls := "StreamQueriesModel", name := "changedNull", desc := "(II)Z" } : Jvm.MethodName)) ∈ lw_all := lw_g (lw_at lw_m10 99 rfl) rfl
theorem q2421 : (Jvm.Cond.selects "StreamQueriesModel" ({ cls := "StreamQueriesModel", name := "changedNull", desc := "(II)Z" } : Jvm.MethodName) ({ cls := "StreamQueriesModel", name := "changedNull", desc := "(II)Z" } : Jvm.MethodName)) ∈ lw_all := lw_g (lw_at lw_m10 100 rfl) rfl
theorem q2422 : (Jvm.Cond.code ({ cls := "StreamQueriesModel", name := "changedNull", desc := "(II)Z" } : Jvm.MethodName) prog_12_method_102_code (3 : Nat) (Option.some Jvm.ClassFile.FieldType.boolean)) ∈ lw_all := lw_g (lw_at lw_m10 101 rfl) rfl
theorem q2424 : (Jvm.Cond.instanceMethod ({ cls := "StreamQueriesModel", name := "rows", desc := "()I" } : Jvm.MethodName)) ∈ lw_all := lw_g (lw_at lw_m10 103 rfl) rfl
theorem q2425 : (Jvm.Cond.selects "StreamQueriesModel" ({ cls := "StreamQueriesModel", name := "rows", desc := "()I" } : Jvm.MethodName) ({ cls := "StreamQueriesModel", name := "rows", desc := "()I" } : Jvm.MethodName)) ∈ lw_all := lw_g (lw_at lw_m10 104 rfl) rfl
theorem q2426 : (Jvm.Cond.code ({ cls := "StreamQueriesModel", name := "rows", desc := "()I" } : Jvm.MethodName) prog_12_method_103_code (1 : Nat) (Option.some Jvm.ClassFile.FieldType.int)) ∈ lw_all := lw_g (lw_at lw_m10 105 rfl) rfl
theorem q2428 : (Jvm.Cond.instanceMethod ({ cls := "StreamQueriesModel", name := "at", desc := "(II)J" } : Jvm.MethodName)) ∈ lw_all := lw_g (lw_at lw_m10 107 rfl) rfl
theorem q2429 : (Jvm.Cond.selects "StreamQueriesModel" ({ cls := "StreamQueriesModel", name := "at", desc := "(II)J" } : Jvm.MethodName) ({ cls := "StreamQueriesModel", name := "at", desc := "(II)J" } : Jvm.MethodName)) ∈ lw_all := lw_g (lw_at lw_m10 108 rfl) rfl
theorem q2430 : (Jvm.Cond.code ({ cls := "StreamQueriesModel", name := "at", desc := "(II)J" } : Jvm.MethodName) prog_12_method_105_code (3 : Nat) (Option.some Jvm.ClassFile.FieldType.long)) ∈ lw_all := lw_g (lw_at lw_m10 109 rfl) rfl
theorem q2431 : (Jvm.Cond.methodLink "StreamQueriesModel" (740 : Nat) ({ cls := "StreamQueriesModel", name := "isAnswer", desc := "(II)Z" } : Jvm.MethodName)) ∈ lw_all := lw_g (lw_at lw_m10 110 rfl) rfl
theorem q2432 : (Jvm.Cond.privateMethod ({ cls := "StreamQueriesModel", name := "isAnswer", desc := "(II)Z" } : Jvm.MethodName)) ∈ lw_tbl := lw_at lw_m10 111 rfl
theorem q2433 : (Jvm.Cond.instanceMethod ({ cls := "StreamQueriesModel", name := "isAnswer", desc := "(II)Z" } : Jvm.MethodName)) ∈ lw_all := lw_g (lw_at lw_m10 112 rfl) rfl
theorem q2434 : (Jvm.Cond.code ({ cls := "StreamQueriesModel", name := "isAnswer", desc := "(II)Z" } : Jvm.MethodName) prog_12_method_104_code (3 : Nat) (Option.some Jvm.ClassFile.FieldType.boolean)) ∈ lw_all := lw_g (lw_at lw_m10 113 rfl) rfl
theorem q2436 : (Jvm.Cond.instanceMethod ({ cls := "StreamQueriesModel", name := "isNull", desc := "(II)Z" } : Jvm.MethodName)) ∈ lw_all := lw_g (lw_at lw_m10 115 rfl) rfl
theorem q2437 : (Jvm.Cond.selects "StreamQueriesModel" ({ cls := "StreamQueriesModel", name := "isNull", desc := "(II)Z" } : Jvm.MethodName) ({ cls := "StreamQueriesModel", name := "isNull", desc := "(II)Z" } : Jvm.MethodName)) ∈ lw_all := lw_g (lw_at lw_m10 116 rfl) rfl
theorem q2438 : (Jvm.Cond.code ({ cls := "StreamQueriesModel", name := "isNull", desc := "(II)Z" } : Jvm.MethodName) prog_12_method_106_code (3 : Nat) (Option.some Jvm.ClassFile.FieldType.boolean)) ∈ lw_all := lw_g (lw_at lw_m10 117 rfl) rfl
theorem q2440 : (Jvm.Cond.instanceMethod ({ cls := "StreamQueriesModel", name := "type", desc := "(I)I" } : Jvm.MethodName)) ∈ lw_all := lw_g (lw_at lw_m10 119 rfl) rfl
theorem q2441 : (Jvm.Cond.selects "StreamQueriesModel" ({ cls := "StreamQueriesModel", name := "type", desc := "(I)I" } : Jvm.MethodName) ({ cls := "StreamQueriesModel", name := "type", desc := "(I)I" } : Jvm.MethodName)) ∈ lw_all := lw_g (lw_at lw_m10 120 rfl) rfl
theorem q2442 : (Jvm.Cond.code ({ cls := "StreamQueriesModel", name := "type", desc := "(I)I" } : Jvm.MethodName) prog_12_method_107_code (2 : Nat) (Option.some Jvm.ClassFile.FieldType.int)) ∈ lw_all := lw_g (lw_at lw_m10 121 rfl) rfl
theorem q2444 : (Jvm.Cond.instanceMethod ({ cls := "StreamQueriesModel", name := "three", desc := "(III)I" } : Jvm.MethodName)) ∈ lw_all := lw_g (lw_at lw_m10 123 rfl) rfl
theorem q2445 : (Jvm.Cond.selects "StreamQueriesModel" ({ cls := "StreamQueriesModel", name := "three", desc := "(III)I" } : Jvm.MethodName) ({ cls := "StreamQueriesModel", name := "three", desc := "(III)I" } : Jvm.MethodName)) ∈ lw_all := lw_g (lw_at lw_m10 124 rfl) rfl
theorem q2446 : (Jvm.Cond.code ({ cls := "StreamQueriesModel", name := "three", desc := "(III)I" } : Jvm.MethodName) prog_12_method_108_code (7 : Nat) (Option.some Jvm.ClassFile.FieldType.int)) ∈ lw_all := lw_g (lw_at lw_m10 125 rfl) rfl
theorem q2448 : (Jvm.Cond.instanceMethod ({ cls := "StreamQueriesModel", name := "told", desc := "(I)I" } : Jvm.MethodName)) ∈ lw_all := lw_g (lw_at lw_m10 127 rfl) rfl
theorem q2449 : (Jvm.Cond.selects "StreamQueriesModel" ({ cls := "StreamQueriesModel", name := "told", desc := "(I)I" } : Jvm.MethodName) ({ cls := "StreamQueriesModel", name := "told", desc := "(I)I" } : Jvm.MethodName)) ∈ lw_all := lw_g (lw_at lw_m10 128 rfl) rfl
theorem q2450 : (Jvm.Cond.code ({ cls := "StreamQueriesModel", name := "told", desc := "(I)I" } : Jvm.MethodName) prog_12_method_109_code (7 : Nat) (Option.some Jvm.ClassFile.FieldType.int)) ∈ lw_all := lw_g (lw_at lw_m10 129 rfl) rfl
theorem in_X7 : ∀ w ∈ wsX70, w ∈ lw_all := lw_in wsX70 [1750, 1752, 1754, 1756, 1758, 1760, 1762, 1764, 1766, 1768, 1770, 1772, 1774, 1776, 1778, 1780, 1782, 1784, 1786, 1788, 1790, 1792, 1794, 1796, 1798, 1800, 1802, 1804, 1806, 1808, 1810, 1812, 1814, 1816, 1818, 1820, 1822, 1824, 1826, 1828, 1830, 1832, 1834, 1836, 1838, 1840, 1842, 1844, 1846, 1848, 1850, 1852, 1854, 1856, 1858, 1860, 1862, 1864, 1866, 1868, 1870, 1872, 1874, 1876, 1878, 1880, 1882, 1884, 1886, 1888, 1890, 1892, 1894, 1896, 1898, 1900, 1902, 1904, 1906, 1908, 1910, 1912, 1914, 1916, 1918, 1920, 1922, 1924, 1926, 1928, 1930, 1932, 1934, 1936, 1938, 1940, 1942, 1944, 1946, 1948, 1950, 1952, 1954, 1956, 1958, 1960, 1962, 1964, 1966, 1968, 1970, 1972, 1974, 1976, 1978] (by decide +kernel) (by decide +kernel)
def RX8 : String := "StreamQueries$Query"
def TX8 : u_T := fun k => match k with
  | 0 => ("StreamQueries$Query", "selects", "[LStreamQueries$Select;", false)
  | 1 => ("StreamQueries$Query", "words", "[I", false)
  | 2 => ("StreamQueries$Query", "hows", "[I", false)
  | 3 => ("StreamQueries$Query", "size", "I", false)
  | 4 => ("StreamQueries$Query", "order", "I", false)
  | 5 => ("StreamQueries$Query", "orders", "I", false)
  | 6 => ("StreamQueries$Query", "orderBy", "[I", true)
  | 7 => ("StreamQueries$Query", "isDown", "[Z", true)
  | 8 => ("StreamQueries$Query", "limit", "I", false)
  | 9 => ("StreamQueries$Query", "columns", "I", false)
  | 10 => ("StreamQueries$Query", "names", "[I", true)
  | 11 => ("StreamQueries$Query", "types", "[I", true)
  | _ => ("StreamQueries$Query", "isBounded", "Z", false)
def tyX8 : Nat → FieldType := fun k => match k with
  | 0 => .array (.object "StreamQueries$Select")
  | 1 => .array .int
  | 2 => .array .int
  | 3 => .int
  | 4 => .int
  | 5 => .int
  | 6 => .array .int
  | 7 => .array .boolean
  | 8 => .int
  | 9 => .int
  | 10 => .array .int
  | 11 => .array .int
  | _ => .boolean
abbrev wsX80 : List Cond := u_ws RX8 TX8 13
theorem nmX8 : ∀ a, a < 13 → ∀ b, b < 13 → a ≠ b → (TX8 a).2.1 ≠ (TX8 b).2.1 := by decide +kernel
theorem tyX8_ok : ∀ k, k < 13 → parseFieldDescriptor (TX8 k).2.2.1 = some (tyX8 k) := by decide +kernel
abbrev cX8_init : ByteArray := prog_7_method_1_code
def yX8_init : MethodName := ⟨RX8, "<init>", "()V"⟩
abbrev cX8_clear : ByteArray := prog_7_method_2_code
def yX8_clear : MethodName := ⟨RX8, "clear", "()V"⟩
abbrev cX8_add : ByteArray := prog_7_method_3_code
def yX8_add : MethodName := ⟨RX8, "add", "(LStreamQueries$Select;II)V"⟩
abbrev cX8_take : ByteArray := prog_7_method_4_code
def yX8_take : MethodName := ⟨RX8, "take", "(LStreamQueries$Select;)V"⟩
theorem q177 : (Jvm.Cond.initialized "StreamQueries$Query") ∈ lw_all := lw_g (lw_at lw_m1 16 rfl) rfl
theorem q671 : (Jvm.Cond.instantiable "StreamQueries$Query" (13 : Nat)) ∈ lw_all := lw_g (lw_at lw_m3 30 rfl) rfl
theorem q673 : (Jvm.Cond.instanceMethod ({ cls := "StreamQueries$Query", name := "<init>", desc := "()V" } : Jvm.MethodName)) ∈ lw_all := lw_g (lw_at lw_m3 32 rfl) rfl
theorem q674 : (Jvm.Cond.code ({ cls := "StreamQueries$Query", name := "<init>", desc := "()V" } : Jvm.MethodName) prog_7_method_1_code (1 : Nat) (Option.none : Option Jvm.ClassFile.FieldType)) ∈ lw_all := lw_g (lw_at lw_m3 33 rfl) rfl
theorem q675 : (Jvm.Cond.methodLink "StreamQueries$Query" (3 : Nat) ({ cls := "java/lang/Object", name := "<init>", desc := "()V" } : Jvm.MethodName)) ∈ lw_all := lw_g (lw_at lw_m3 34 rfl) rfl
theorem q676 : (Jvm.Cond.classLink "StreamQueries$Query" (9 : Nat) "StreamQueries$Select") ∈ lw_all := lw_g (lw_at lw_m3 35 rfl) rfl
theorem q677 : (Jvm.Cond.fieldLink "StreamQueries$Query" (11 : Nat) "StreamQueries$Query" "selects" "[LStreamQueries$Select;") ∈ lw_all := lw_g (lw_at lw_m3 36 rfl) rfl
theorem q679 : (Jvm.Cond.fieldLink "StreamQueries$Query" (17 : Nat) "StreamQueries$Query" "words" "[I") ∈ lw_all := lw_g (lw_at lw_m3 38 rfl) rfl
theorem q681 : (Jvm.Cond.fieldLink "StreamQueries$Query" (21 : Nat) "StreamQueries$Query" "hows" "[I") ∈ lw_all := lw_g (lw_at lw_m3 40 rfl) rfl
theorem q683 : (Jvm.Cond.fieldLink "StreamQueries$Query" (41 : Nat) "StreamQueries$Query" "size" "I") ∈ lw_all := lw_g (lw_at lw_m3 42 rfl) rfl
theorem q685 : (Jvm.Cond.fieldLink "StreamQueries$Query" (24 : Nat) "StreamQueries$Query" "order" "I") ∈ lw_all := lw_g (lw_at lw_m3 44 rfl) rfl
theorem q687 : (Jvm.Cond.fieldLink "StreamQueries$Query" (44 : Nat) "StreamQueries$Query" "orders" "I") ∈ lw_all := lw_g (lw_at lw_m3 46 rfl) rfl
theorem q689 : (Jvm.Cond.fieldLink "StreamQueries$Query" (28 : Nat) "StreamQueries$Query" "orderBy" "[I") ∈ lw_all := lw_g (lw_at lw_m3 48 rfl) rfl
theorem q691 : (Jvm.Cond.fieldLink "StreamQueries$Query" (31 : Nat) "StreamQueries$Query" "isDown" "[Z") ∈ lw_all := lw_g (lw_at lw_m3 50 rfl) rfl
theorem q694 : (Jvm.Cond.fieldLink "StreamQueries$Query" (47 : Nat) "StreamQueries$Query" "columns" "I") ∈ lw_all := lw_g (lw_at lw_m3 53 rfl) rfl
theorem q696 : (Jvm.Cond.fieldLink "StreamQueries$Query" (35 : Nat) "StreamQueries$Query" "names" "[I") ∈ lw_all := lw_g (lw_at lw_m3 55 rfl) rfl
theorem q698 : (Jvm.Cond.fieldLink "StreamQueries$Query" (38 : Nat) "StreamQueries$Query" "types" "[I") ∈ lw_all := lw_g (lw_at lw_m3 57 rfl) rfl
theorem q700 : (Jvm.Cond.fieldLink "StreamQueries$Query" (63 : Nat) "StreamQueries$Query" "isBounded" "Z") ∈ lw_all := lw_g (lw_at lw_m3 59 rfl) rfl
theorem q702 : (Jvm.Cond.lays "StreamQueries$Query" "StreamQueries$Query" "selects" "[LStreamQueries$Select;") ∈ lw_all := lw_g (lw_at lw_m3 61 rfl) rfl
theorem q703 : (Jvm.Cond.soleField "StreamQueries$Query" "selects") ∈ lw_all := lw_g (lw_at lw_m3 62 rfl) rfl
theorem q704 : (Jvm.Cond.lays "StreamQueries$Query" "StreamQueries$Query" "words" "[I") ∈ lw_all := lw_g (lw_at lw_m3 63 rfl) rfl
theorem q705 : (Jvm.Cond.soleField "StreamQueries$Query" "words") ∈ lw_all := lw_g (lw_at lw_m3 64 rfl) rfl
theorem q706 : (Jvm.Cond.lays "StreamQueries$Query" "StreamQueries$Query" "hows" "[I") ∈ lw_all := lw_g (lw_at lw_m3 65 rfl) rfl
theorem q707 : (Jvm.Cond.soleField "StreamQueries$Query" "hows") ∈ lw_all := lw_g (lw_at lw_m3 66 rfl) rfl
theorem q708 : (Jvm.Cond.lays "StreamQueries$Query" "StreamQueries$Query" "size" "I") ∈ lw_all := lw_g (lw_at lw_m3 67 rfl) rfl
theorem q709 : (Jvm.Cond.soleField "StreamQueries$Query" "size") ∈ lw_all := lw_g (lw_at lw_m3 68 rfl) rfl
theorem q710 : (Jvm.Cond.lays "StreamQueries$Query" "StreamQueries$Query" "order" "I") ∈ lw_all := lw_g (lw_at lw_m3 69 rfl) rfl
theorem q711 : (Jvm.Cond.soleField "StreamQueries$Query" "order") ∈ lw_all := lw_g (lw_at lw_m3 70 rfl) rfl
theorem q712 : (Jvm.Cond.lays "StreamQueries$Query" "StreamQueries$Query" "orders" "I") ∈ lw_all := lw_g (lw_at lw_m3 71 rfl) rfl
theorem q713 : (Jvm.Cond.soleField "StreamQueries$Query" "orders") ∈ lw_all := lw_g (lw_at lw_m3 72 rfl) rfl
theorem q714 : (Jvm.Cond.laysFinal "StreamQueries$Query" "StreamQueries$Query" "orderBy" "[I") ∈ lw_all := lw_g (lw_at lw_m3 73 rfl) rfl
theorem q715 : (Jvm.Cond.soleField "StreamQueries$Query" "orderBy") ∈ lw_all := lw_g (lw_at lw_m3 74 rfl) rfl
theorem q716 : (Jvm.Cond.laysFinal "StreamQueries$Query" "StreamQueries$Query" "isDown" "[Z") ∈ lw_all := lw_g (lw_at lw_m3 75 rfl) rfl
theorem q717 : (Jvm.Cond.soleField "StreamQueries$Query" "isDown") ∈ lw_all := lw_g (lw_at lw_m3 76 rfl) rfl
theorem q718 : (Jvm.Cond.lays "StreamQueries$Query" "StreamQueries$Query" "limit" "I") ∈ lw_all := lw_g (lw_at lw_m3 77 rfl) rfl
theorem q719 : (Jvm.Cond.soleField "StreamQueries$Query" "limit") ∈ lw_all := lw_g (lw_at lw_m3 78 rfl) rfl
theorem q720 : (Jvm.Cond.lays "StreamQueries$Query" "StreamQueries$Query" "columns" "I") ∈ lw_all := lw_g (lw_at lw_m3 79 rfl) rfl
theorem q721 : (Jvm.Cond.soleField "StreamQueries$Query" "columns") ∈ lw_all := lw_g (lw_at lw_m3 80 rfl) rfl
theorem q722 : (Jvm.Cond.laysFinal "StreamQueries$Query" "StreamQueries$Query" "names" "[I") ∈ lw_all := lw_g (lw_at lw_m3 81 rfl) rfl
theorem q723 : (Jvm.Cond.soleField "StreamQueries$Query" "names") ∈ lw_all := lw_g (lw_at lw_m3 82 rfl) rfl
theorem q724 : (Jvm.Cond.laysFinal "StreamQueries$Query" "StreamQueries$Query" "types" "[I") ∈ lw_all := lw_g (lw_at lw_m3 83 rfl) rfl
theorem q725 : (Jvm.Cond.soleField "StreamQueries$Query" "types") ∈ lw_all := lw_g (lw_at lw_m3 84 rfl) rfl
theorem q726 : (Jvm.Cond.lays "StreamQueries$Query" "StreamQueries$Query" "isBounded" "Z") ∈ lw_all := lw_g (lw_at lw_m3 85 rfl) rfl
theorem q727 : (Jvm.Cond.soleField "StreamQueries$Query" "isBounded") ∈ lw_all := lw_g (lw_at lw_m3 86 rfl) rfl
theorem q728 : (Jvm.Cond.superclass "StreamQueries$Query" "java/lang/Object") ∈ lw_all := lw_g (lw_at lw_m3 87 rfl) rfl
theorem q730 : (Jvm.Cond.instanceMethod ({ cls := "StreamQueries$Query", name := "clear", desc := "()V" } : Jvm.MethodName)) ∈ lw_all := lw_g (lw_at lw_m3 89 rfl) rfl
theorem q731 : (Jvm.Cond.selects "StreamQueries$Query" ({ cls := "StreamQueries$Query", name := "clear", desc := "()V" } : Jvm.MethodName) ({ cls := "StreamQueries$Query", name := "clear", desc := "()V" } : Jvm.MethodName)) ∈ lw_all := lw_g (lw_at lw_m3 90 rfl) rfl
theorem q732 : (Jvm.Cond.code ({ cls := "StreamQueries$Query", name := "clear", desc := "()V" } : Jvm.MethodName) prog_7_method_2_code (1 : Nat) (Option.none : Option Jvm.ClassFile.FieldType)) ∈ lw_all := lw_g (lw_at lw_m3 91 rfl) rfl
theorem q750 : (Jvm.Cond.fieldLinkNest "StreamQueries$Query" (56 : Nat) "StreamQueries$Select" "items" "I" "StreamQueries") ∈ lw_tbl := lw_at lw_m3 109 rfl
theorem q755 : (Jvm.Cond.fieldLinkNest "StreamQueries$Query" (64 : Nat) "StreamQueries$Select" "itemName" "[I" "StreamQueries") ∈ lw_tbl := lw_at lw_m3 114 rfl
theorem q758 : (Jvm.Cond.fieldLinkNest "StreamQueries$Query" (67 : Nat) "StreamQueries$Select" "itemType" "[I" "StreamQueries") ∈ lw_tbl := lw_at lw_m3 117 rfl
theorem q799 : (Jvm.Cond.fieldLinkNest "StreamQueries$Query" (59 : Nat) "StreamQueries$Select" "isBounded" "Z" "StreamQueries") ∈ lw_tbl := lw_at lw_m3 158 rfl
theorem q1038 : (Jvm.Cond.instanceMethod ({ cls := "StreamQueries$Query", name := "add", desc := "(LStreamQueries$Select;II)V" } : Jvm.MethodName)) ∈ lw_all := lw_g (lw_at lw_m4 157 rfl) rfl
theorem q1039 : (Jvm.Cond.selects "StreamQueries$Query" ({ cls := "StreamQueries$Query", name := "add", desc := "(LStreamQueries$Select;II)V" } : Jvm.MethodName) ({ cls := "StreamQueries$Query", name := "add", desc := "(LStreamQueries$Select;II)V" } : Jvm.MethodName)) ∈ lw_all := lw_g (lw_at lw_m4 158 rfl) rfl
theorem q1040 : (Jvm.Cond.code ({ cls := "StreamQueries$Query", name := "add", desc := "(LStreamQueries$Select;II)V" } : Jvm.MethodName) prog_7_method_3_code (7 : Nat) (Option.none : Option Jvm.ClassFile.FieldType)) ∈ lw_all := lw_g (lw_at lw_m4 159 rfl) rfl
theorem q1041 : (Jvm.Cond.methodLink "StreamQueries$Query" (50 : Nat) ({ cls := "java/lang/System", name := "arraycopy", desc := "(Ljava/lang/Object;ILjava/lang/Object;II)V" } : Jvm.MethodName)) ∈ lw_all := lw_g (lw_at lw_m4 160 rfl) rfl
theorem q1229 : (Jvm.Cond.instanceMethod ({ cls := "StreamQueries$Query", name := "take", desc := "(LStreamQueries$Select;)V" } : Jvm.MethodName)) ∈ lw_all := lw_g (lw_at lw_m5 108 rfl) rfl
theorem q1230 : (Jvm.Cond.selects "StreamQueries$Query" ({ cls := "StreamQueries$Query", name := "take", desc := "(LStreamQueries$Select;)V" } : Jvm.MethodName) ({ cls := "StreamQueries$Query", name := "take", desc := "(LStreamQueries$Select;)V" } : Jvm.MethodName)) ∈ lw_all := lw_g (lw_at lw_m5 109 rfl) rfl
theorem q1231 : (Jvm.Cond.code ({ cls := "StreamQueries$Query", name := "take", desc := "(LStreamQueries$Select;)V" } : Jvm.MethodName) prog_7_method_4_code (2 : Nat) (Option.none : Option Jvm.ClassFile.FieldType)) ∈ lw_all := lw_g (lw_at lw_m5 110 rfl) rfl
theorem in_X8 : ∀ w ∈ wsX80, w ∈ lw_all := lw_in wsX80 [702, 704, 706, 708, 710, 712, 714, 716, 718, 720, 722, 724, 726] (by decide +kernel) (by decide +kernel)
def RX9 : String := "StreamQueries$Select"
def TX9 : u_T := fun k => match k with
  | 0 => ("StreamQueries$Select", "distinct", "I", false)
  | 1 => ("StreamQueries$Select", "items", "I", false)
  | 2 => ("StreamQueries$Select", "item", "[I", true)
  | 3 => ("StreamQueries$Select", "itemName", "[I", true)
  | 4 => ("StreamQueries$Select", "itemType", "[I", true)
  | 5 => ("StreamQueries$Select", "sources", "I", false)
  | 6 => ("StreamQueries$Select", "inner", "[LStreamQueries$Query;", true)
  | 7 => ("StreamQueries$Select", "closing", "[I", true)
  | 8 => ("StreamQueries$Select", "stream", "[I", true)
  | 9 => ("StreamQueries$Select", "keep", "[J", true)
  | 10 => ("StreamQueries$Select", "sourceName", "[I", true)
  | 11 => ("StreamQueries$Select", "join", "[I", true)
  | 12 => ("StreamQueries$Select", "isLeft", "[Z", true)
  | 13 => ("StreamQueries$Select", "on", "[I", true)
  | 14 => ("StreamQueries$Select", "firstOf", "[I", true)
  | 15 => ("StreamQueries$Select", "wideOf", "[I", true)
  | 16 => ("StreamQueries$Select", "wide", "I", false)
  | 17 => ("StreamQueries$Select", "where", "I", false)
  | 18 => ("StreamQueries$Select", "group", "I", false)
  | 19 => ("StreamQueries$Select", "groups", "I", false)
  | 20 => ("StreamQueries$Select", "groupBy", "[I", true)
  | 21 => ("StreamQueries$Select", "groupName", "[I", true)
  | 22 => ("StreamQueries$Select", "having", "I", false)
  | 23 => ("StreamQueries$Select", "aggregates", "I", false)
  | 24 => ("StreamQueries$Select", "aggregate", "[I", true)
  | _ => ("StreamQueries$Select", "isBounded", "Z", false)
def tyX9 : Nat → FieldType := fun k => match k with
  | 0 => .int
  | 1 => .int
  | 2 => .array .int
  | 3 => .array .int
  | 4 => .array .int
  | 5 => .int
  | 6 => .array (.object "StreamQueries$Query")
  | 7 => .array .int
  | 8 => .array .int
  | 9 => .array .long
  | 10 => .array .int
  | 11 => .array .int
  | 12 => .array .boolean
  | 13 => .array .int
  | 14 => .array .int
  | 15 => .array .int
  | 16 => .int
  | 17 => .int
  | 18 => .int
  | 19 => .int
  | 20 => .array .int
  | 21 => .array .int
  | 22 => .int
  | 23 => .int
  | 24 => .array .int
  | _ => .boolean
abbrev wsX90 : List Cond := u_ws RX9 TX9 26
theorem nmX9 : ∀ a, a < 26 → ∀ b, b < 26 → a ≠ b → (TX9 a).2.1 ≠ (TX9 b).2.1 := by decide +kernel
theorem tyX9_ok : ∀ k, k < 26 → parseFieldDescriptor (TX9 k).2.2.1 = some (tyX9 k) := by decide +kernel
abbrev cX9_init : ByteArray := prog_9_method_1_code
def yX9_init : MethodName := ⟨RX9, "<init>", "()V"⟩
abbrev cX9_clear : ByteArray := prog_9_method_2_code
def yX9_clear : MethodName := ⟨RX9, "clear", "()V"⟩
theorem q178 : (Jvm.Cond.initialized "StreamQueries$Select") ∈ lw_all := lw_g (lw_at lw_m1 17 rfl) rfl
theorem q741 : (Jvm.Cond.instantiable "StreamQueries$Select" (26 : Nat)) ∈ lw_all := lw_g (lw_at lw_m3 100 rfl) rfl
theorem q743 : (Jvm.Cond.instanceMethod ({ cls := "StreamQueries$Select", name := "<init>", desc := "()V" } : Jvm.MethodName)) ∈ lw_all := lw_g (lw_at lw_m3 102 rfl) rfl
theorem q744 : (Jvm.Cond.code ({ cls := "StreamQueries$Select", name := "<init>", desc := "()V" } : Jvm.MethodName) prog_9_method_1_code (1 : Nat) (Option.none : Option Jvm.ClassFile.FieldType)) ∈ lw_all := lw_g (lw_at lw_m3 103 rfl) rfl
theorem q745 : (Jvm.Cond.methodLink "StreamQueries$Select" (3 : Nat) ({ cls := "java/lang/Object", name := "<init>", desc := "()V" } : Jvm.MethodName)) ∈ lw_all := lw_g (lw_at lw_m3 104 rfl) rfl
theorem q746 : (Jvm.Cond.classLink "StreamQueries$Select" (25 : Nat) "StreamQueries$Query") ∈ lw_all := lw_g (lw_at lw_m3 105 rfl) rfl
theorem q747 : (Jvm.Cond.fieldLink "StreamQueries$Select" (9 : Nat) "StreamQueries$Select" "distinct" "I") ∈ lw_all := lw_g (lw_at lw_m3 106 rfl) rfl
theorem q749 : (Jvm.Cond.fieldLink "StreamQueries$Select" (78 : Nat) "StreamQueries$Select" "items" "I") ∈ lw_all := lw_g (lw_at lw_m3 108 rfl) rfl
theorem q752 : (Jvm.Cond.fieldLink "StreamQueries$Select" (15 : Nat) "StreamQueries$Select" "item" "[I") ∈ lw_all := lw_g (lw_at lw_m3 111 rfl) rfl
theorem q754 : (Jvm.Cond.fieldLink "StreamQueries$Select" (19 : Nat) "StreamQueries$Select" "itemName" "[I") ∈ lw_all := lw_g (lw_at lw_m3 113 rfl) rfl
theorem q757 : (Jvm.Cond.fieldLink "StreamQueries$Select" (22 : Nat) "StreamQueries$Select" "itemType" "[I") ∈ lw_all := lw_g (lw_at lw_m3 116 rfl) rfl
theorem q760 : (Jvm.Cond.fieldLink "StreamQueries$Select" (81 : Nat) "StreamQueries$Select" "sources" "I") ∈ lw_all := lw_g (lw_at lw_m3 119 rfl) rfl
theorem q762 : (Jvm.Cond.fieldLink "StreamQueries$Select" (27 : Nat) "StreamQueries$Select" "inner" "[LStreamQueries$Query;") ∈ lw_all := lw_g (lw_at lw_m3 121 rfl) rfl
theorem q764 : (Jvm.Cond.fieldLink "StreamQueries$Select" (31 : Nat) "StreamQueries$Select" "closing" "[I") ∈ lw_all := lw_g (lw_at lw_m3 123 rfl) rfl
theorem q766 : (Jvm.Cond.fieldLink "StreamQueries$Select" (34 : Nat) "StreamQueries$Select" "stream" "[I") ∈ lw_all := lw_g (lw_at lw_m3 125 rfl) rfl
theorem q768 : (Jvm.Cond.fieldLink "StreamQueries$Select" (37 : Nat) "StreamQueries$Select" "keep" "[J") ∈ lw_all := lw_g (lw_at lw_m3 127 rfl) rfl
theorem q770 : (Jvm.Cond.fieldLink "StreamQueries$Select" (41 : Nat) "StreamQueries$Select" "sourceName" "[I") ∈ lw_all := lw_g (lw_at lw_m3 129 rfl) rfl
theorem q772 : (Jvm.Cond.fieldLink "StreamQueries$Select" (44 : Nat) "StreamQueries$Select" "join" "[I") ∈ lw_all := lw_g (lw_at lw_m3 131 rfl) rfl
theorem q774 : (Jvm.Cond.fieldLink "StreamQueries$Select" (47 : Nat) "StreamQueries$Select" "isLeft" "[Z") ∈ lw_all := lw_g (lw_at lw_m3 133 rfl) rfl
theorem q776 : (Jvm.Cond.fieldLink "StreamQueries$Select" (51 : Nat) "StreamQueries$Select" "on" "[I") ∈ lw_all := lw_g (lw_at lw_m3 135 rfl) rfl
theorem q778 : (Jvm.Cond.fieldLink "StreamQueries$Select" (54 : Nat) "StreamQueries$Select" "firstOf" "[I") ∈ lw_all := lw_g (lw_at lw_m3 137 rfl) rfl
theorem q780 : (Jvm.Cond.fieldLink "StreamQueries$Select" (57 : Nat) "StreamQueries$Select" "wideOf" "[I") ∈ lw_all := lw_g (lw_at lw_m3 139 rfl) rfl
theorem q783 : (Jvm.Cond.fieldLink "StreamQueries$Select" (60 : Nat) "StreamQueries$Select" "where" "I") ∈ lw_all := lw_g (lw_at lw_m3 142 rfl) rfl
theorem q785 : (Jvm.Cond.fieldLink "StreamQueries$Select" (63 : Nat) "StreamQueries$Select" "group" "I") ∈ lw_all := lw_g (lw_at lw_m3 144 rfl) rfl
theorem q787 : (Jvm.Cond.fieldLink "StreamQueries$Select" (84 : Nat) "StreamQueries$Select" "groups" "I") ∈ lw_all := lw_g (lw_at lw_m3 146 rfl) rfl
theorem q789 : (Jvm.Cond.fieldLink "StreamQueries$Select" (66 : Nat) "StreamQueries$Select" "groupBy" "[I") ∈ lw_all := lw_g (lw_at lw_m3 148 rfl) rfl
theorem q791 : (Jvm.Cond.fieldLink "StreamQueries$Select" (69 : Nat) "StreamQueries$Select" "groupName" "[I") ∈ lw_all := lw_g (lw_at lw_m3 150 rfl) rfl
theorem q793 : (Jvm.Cond.fieldLink "StreamQueries$Select" (72 : Nat) "StreamQueries$Select" "having" "I") ∈ lw_all := lw_g (lw_at lw_m3 152 rfl) rfl
theorem q795 : (Jvm.Cond.fieldLink "StreamQueries$Select" (87 : Nat) "StreamQueries$Select" "aggregates" "I") ∈ lw_all := lw_g (lw_at lw_m3 154 rfl) rfl
theorem q797 : (Jvm.Cond.fieldLink "StreamQueries$Select" (75 : Nat) "StreamQueries$Select" "aggregate" "[I") ∈ lw_all := lw_g (lw_at lw_m3 156 rfl) rfl
theorem q801 : (Jvm.Cond.lays "StreamQueries$Select" "StreamQueries$Select" "distinct" "I") ∈ lw_all := lw_g (lw_at lw_m3 160 rfl) rfl
theorem q802 : (Jvm.Cond.soleField "StreamQueries$Select" "distinct") ∈ lw_all := lw_g (lw_at lw_m3 161 rfl) rfl
theorem q803 : (Jvm.Cond.lays "StreamQueries$Select" "StreamQueries$Select" "items" "I") ∈ lw_all := lw_g (lw_at lw_m3 162 rfl) rfl
theorem q804 : (Jvm.Cond.soleField "StreamQueries$Select" "items") ∈ lw_all := lw_g (lw_at lw_m3 163 rfl) rfl
theorem q805 : (Jvm.Cond.laysFinal "StreamQueries$Select" "StreamQueries$Select" "item" "[I") ∈ lw_all := lw_g (lw_at lw_m3 164 rfl) rfl
theorem q806 : (Jvm.Cond.soleField "StreamQueries$Select" "item") ∈ lw_all := lw_g (lw_at lw_m3 165 rfl) rfl
theorem q807 : (Jvm.Cond.laysFinal "StreamQueries$Select" "StreamQueries$Select" "itemName" "[I") ∈ lw_all := lw_g (lw_at lw_m3 166 rfl) rfl
theorem q808 : (Jvm.Cond.soleField "StreamQueries$Select" "itemName") ∈ lw_all := lw_g (lw_at lw_m3 167 rfl) rfl
theorem q809 : (Jvm.Cond.laysFinal "StreamQueries$Select" "StreamQueries$Select" "itemType" "[I") ∈ lw_all := lw_g (lw_at lw_m3 168 rfl) rfl
theorem q810 : (Jvm.Cond.soleField "StreamQueries$Select" "itemType") ∈ lw_all := lw_g (lw_at lw_m3 169 rfl) rfl
theorem q811 : (Jvm.Cond.lays "StreamQueries$Select" "StreamQueries$Select" "sources" "I") ∈ lw_all := lw_g (lw_at lw_m3 170 rfl) rfl
theorem q812 : (Jvm.Cond.soleField "StreamQueries$Select" "sources") ∈ lw_all := lw_g (lw_at lw_m3 171 rfl) rfl
theorem q813 : (Jvm.Cond.laysFinal "StreamQueries$Select" "StreamQueries$Select" "inner" "[LStreamQueries$Query;") ∈ lw_all := lw_g (lw_at lw_m3 172 rfl) rfl
theorem q814 : (Jvm.Cond.soleField "StreamQueries$Select" "inner") ∈ lw_all := lw_g (lw_at lw_m3 173 rfl) rfl
theorem q815 : (Jvm.Cond.laysFinal "StreamQueries$Select" "StreamQueries$Select" "closing" "[I") ∈ lw_all := lw_g (lw_at lw_m3 174 rfl) rfl
theorem q816 : (Jvm.Cond.soleField "StreamQueries$Select" "closing") ∈ lw_all := lw_g (lw_at lw_m3 175 rfl) rfl
theorem q817 : (Jvm.Cond.laysFinal "StreamQueries$Select" "StreamQueries$Select" "stream" "[I") ∈ lw_all := lw_g (lw_at lw_m3 176 rfl) rfl
theorem q818 : (Jvm.Cond.soleField "StreamQueries$Select" "stream") ∈ lw_all := lw_g (lw_at lw_m3 177 rfl) rfl
theorem q819 : (Jvm.Cond.laysFinal "StreamQueries$Select" "StreamQueries$Select" "keep" "[J") ∈ lw_all := lw_g (lw_at lw_m3 178 rfl) rfl
theorem q820 : (Jvm.Cond.soleField "StreamQueries$Select" "keep") ∈ lw_all := lw_g (lw_at lw_m3 179 rfl) rfl
theorem q821 : (Jvm.Cond.laysFinal "StreamQueries$Select" "StreamQueries$Select" "sourceName" "[I") ∈ lw_all := lw_g (lw_at lw_m3 180 rfl) rfl
theorem q822 : (Jvm.Cond.soleField "StreamQueries$Select" "sourceName") ∈ lw_all := lw_g (lw_at lw_m3 181 rfl) rfl
theorem q823 : (Jvm.Cond.laysFinal "StreamQueries$Select" "StreamQueries$Select" "join" "[I") ∈ lw_all := lw_g (lw_at lw_m3 182 rfl) rfl
theorem q824 : (Jvm.Cond.soleField "StreamQueries$Select" "join") ∈ lw_all := lw_g (lw_at lw_m3 183 rfl) rfl
theorem q825 : (Jvm.Cond.laysFinal "StreamQueries$Select" "StreamQueries$Select" "isLeft" "[Z") ∈ lw_all := lw_g (lw_at lw_m3 184 rfl) rfl
theorem q826 : (Jvm.Cond.soleField "StreamQueries$Select" "isLeft") ∈ lw_all := lw_g (lw_at lw_m3 185 rfl) rfl
theorem q827 : (Jvm.Cond.laysFinal "StreamQueries$Select" "StreamQueries$Select" "on" "[I") ∈ lw_all := lw_g (lw_at lw_m3 186 rfl) rfl
theorem q828 : (Jvm.Cond.soleField "StreamQueries$Select" "on") ∈ lw_all := lw_g (lw_at lw_m3 187 rfl) rfl
theorem q829 : (Jvm.Cond.laysFinal "StreamQueries$Select" "StreamQueries$Select" "firstOf" "[I") ∈ lw_all := lw_g (lw_at lw_m3 188 rfl) rfl
theorem q830 : (Jvm.Cond.soleField "StreamQueries$Select" "firstOf") ∈ lw_all := lw_g (lw_at lw_m3 189 rfl) rfl
theorem q831 : (Jvm.Cond.laysFinal "StreamQueries$Select" "StreamQueries$Select" "wideOf" "[I") ∈ lw_all := lw_g (lw_at lw_m3 190 rfl) rfl
theorem q832 : (Jvm.Cond.soleField "StreamQueries$Select" "wideOf") ∈ lw_all := lw_g (lw_at lw_m3 191 rfl) rfl
theorem q833 : (Jvm.Cond.lays "StreamQueries$Select" "StreamQueries$Select" "wide" "I") ∈ lw_all := lw_g (lw_at lw_m3 192 rfl) rfl
theorem q834 : (Jvm.Cond.soleField "StreamQueries$Select" "wide") ∈ lw_all := lw_g (lw_at lw_m3 193 rfl) rfl
theorem q835 : (Jvm.Cond.lays "StreamQueries$Select" "StreamQueries$Select" "where" "I") ∈ lw_all := lw_g (lw_at lw_m3 194 rfl) rfl
theorem q836 : (Jvm.Cond.soleField "StreamQueries$Select" "where") ∈ lw_all := lw_g (lw_at lw_m3 195 rfl) rfl
theorem q837 : (Jvm.Cond.lays "StreamQueries$Select" "StreamQueries$Select" "group" "I") ∈ lw_all := lw_g (lw_at lw_m3 196 rfl) rfl
theorem q838 : (Jvm.Cond.soleField "StreamQueries$Select" "group") ∈ lw_all := lw_g (lw_at lw_m3 197 rfl) rfl
theorem q839 : (Jvm.Cond.lays "StreamQueries$Select" "StreamQueries$Select" "groups" "I") ∈ lw_all := lw_g (lw_at lw_m3 198 rfl) rfl
theorem q840 : (Jvm.Cond.soleField "StreamQueries$Select" "groups") ∈ lw_all := lw_g (lw_at lw_m3 199 rfl) rfl
theorem q841 : (Jvm.Cond.laysFinal "StreamQueries$Select" "StreamQueries$Select" "groupBy" "[I") ∈ lw_all := lw_g (lw_at lw_m3 200 rfl) rfl
theorem q842 : (Jvm.Cond.soleField "StreamQueries$Select" "groupBy") ∈ lw_all := lw_g (lw_at lw_m3 201 rfl) rfl
theorem q843 : (Jvm.Cond.laysFinal "StreamQueries$Select" "StreamQueries$Select" "groupName" "[I") ∈ lw_all := lw_g (lw_at lw_m3 202 rfl) rfl
theorem q844 : (Jvm.Cond.soleField "StreamQueries$Select" "groupName") ∈ lw_all := lw_g (lw_at lw_m3 203 rfl) rfl
theorem q845 : (Jvm.Cond.lays "StreamQueries$Select" "StreamQueries$Select" "having" "I") ∈ lw_all := lw_g (lw_at lw_m3 204 rfl) rfl
theorem q846 : (Jvm.Cond.soleField "StreamQueries$Select" "having") ∈ lw_all := lw_g (lw_at lw_m3 205 rfl) rfl
theorem q847 : (Jvm.Cond.lays "StreamQueries$Select" "StreamQueries$Select" "aggregates" "I") ∈ lw_all := lw_g (lw_at lw_m3 206 rfl) rfl
theorem q848 : (Jvm.Cond.soleField "StreamQueries$Select" "aggregates") ∈ lw_all := lw_g (lw_at lw_m3 207 rfl) rfl
theorem q849 : (Jvm.Cond.laysFinal "StreamQueries$Select" "StreamQueries$Select" "aggregate" "[I") ∈ lw_all := lw_g (lw_at lw_m3 208 rfl) rfl
theorem q850 : (Jvm.Cond.soleField "StreamQueries$Select" "aggregate") ∈ lw_all := lw_g (lw_at lw_m3 209 rfl) rfl
theorem q851 : (Jvm.Cond.lays "StreamQueries$Select" "StreamQueries$Select" "isBounded" "Z") ∈ lw_all := lw_g (lw_at lw_m3 210 rfl) rfl
theorem q852 : (Jvm.Cond.soleField "StreamQueries$Select" "isBounded") ∈ lw_all := lw_g (lw_at lw_m3 211 rfl) rfl
theorem q853 : (Jvm.Cond.superclass "StreamQueries$Select" "java/lang/Object") ∈ lw_all := lw_g (lw_at lw_m3 212 rfl) rfl
theorem q855 : (Jvm.Cond.instanceMethod ({ cls := "StreamQueries$Select", name := "clear", desc := "()V" } : Jvm.MethodName)) ∈ lw_all := lw_g (lw_at lw_m3 214 rfl) rfl
theorem q856 : (Jvm.Cond.selects "StreamQueries$Select" ({ cls := "StreamQueries$Select", name := "clear", desc := "()V" } : Jvm.MethodName) ({ cls := "StreamQueries$Select", name := "clear", desc := "()V" } : Jvm.MethodName)) ∈ lw_all := lw_g (lw_at lw_m3 215 rfl) rfl
theorem q857 : (Jvm.Cond.code ({ cls := "StreamQueries$Select", name := "clear", desc := "()V" } : Jvm.MethodName) prog_9_method_2_code (2 : Nat) (Option.none : Option Jvm.ClassFile.FieldType)) ∈ lw_all := lw_g (lw_at lw_m3 216 rfl) rfl
theorem in_X9 : ∀ w ∈ wsX90, w ∈ lw_all := lw_in wsX90 [801, 803, 805, 807, 809, 811, 813, 815, 817, 819, 821, 823, 825, 827, 829, 831, 833, 835, 837, 839, 841, 843, 845, 847, 849, 851] (by decide +kernel) (by decide +kernel)
def RX10 : String := "StreamQueries$Node"
def TX10 : u_T := fun k => match k with
  | 0 => ("StreamQueries$Node", "expressions", "LStreamQueries$Expressions;", true)
  | 1 => ("StreamQueries$Node", "pool", "LStreamQueries$Pool;", true)
  | 2 => ("StreamQueries$Node", "kind", "I", false)
  | 3 => ("StreamQueries$Node", "left", "LStreamQueries$Node;", false)
  | 4 => ("StreamQueries$Node", "right", "LStreamQueries$Node;", false)
  | 5 => ("StreamQueries$Node", "out", "LStreamQueries$Bag;", true)
  | 6 => ("StreamQueries$Node", "delta", "LStreamQueries$Bag;", true)
  | 7 => ("StreamQueries$Node", "alone", "LStreamQueries$Bag;", true)
  | 8 => ("StreamQueries$Node", "fresh", "LStreamQueries$Bag;", true)
  | 9 => ("StreamQueries$Node", "row", "LStreamQueries$Row;", true)
  | 10 => ("StreamQueries$Node", "key", "LStreamQueries$Row;", true)
  | 11 => ("StreamQueries$Node", "stream", "I", false)
  | 12 => ("StreamQueries$Node", "keep", "J", false)
  | 13 => ("StreamQueries$Node", "oldest", "J", false)
  | 14 => ("StreamQueries$Node", "condition", "I", false)
  | 15 => ("StreamQueries$Node", "isLeft", "Z", false)
  | 16 => ("StreamQueries$Node", "wide", "I", false)
  | 17 => ("StreamQueries$Node", "list", "[I", true)
  | 18 => ("StreamQueries$Node", "listed", "I", false)
  | 19 => ("StreamQueries$Node", "aggregates", "[I", true)
  | 20 => ("StreamQueries$Node", "aggregated", "I", false)
  | 21 => ("StreamQueries$Node", "isDown", "[Z", true)
  | 22 => ("StreamQueries$Node", "most", "I", false)
  | 23 => ("StreamQueries$Node", "keys", "[LStreamQueries$Row;", false)
  | 24 => ("StreamQueries$Node", "matches", "[I", false)
  | 25 => ("StreamQueries$Node", "many", "I", false)
  | _ => ("StreamQueries$Node", "order", "[I", false)
def tyX10 : Nat → FieldType := fun k => match k with
  | 0 => .object "StreamQueries$Expressions"
  | 1 => .object "StreamQueries$Pool"
  | 2 => .int
  | 3 => .object "StreamQueries$Node"
  | 4 => .object "StreamQueries$Node"
  | 5 => .object "StreamQueries$Bag"
  | 6 => .object "StreamQueries$Bag"
  | 7 => .object "StreamQueries$Bag"
  | 8 => .object "StreamQueries$Bag"
  | 9 => .object "StreamQueries$Row"
  | 10 => .object "StreamQueries$Row"
  | 11 => .int
  | 12 => .long
  | 13 => .long
  | 14 => .int
  | 15 => .boolean
  | 16 => .int
  | 17 => .array .int
  | 18 => .int
  | 19 => .array .int
  | 20 => .int
  | 21 => .array .boolean
  | 22 => .int
  | 23 => .array (.object "StreamQueries$Row")
  | 24 => .array .int
  | 25 => .int
  | _ => .array .int
abbrev wsX100 : List Cond := u_ws RX10 TX10 27
theorem nmX10 : ∀ a, a < 27 → ∀ b, b < 27 → a ≠ b → (TX10 a).2.1 ≠ (TX10 b).2.1 := by decide +kernel
theorem tyX10_ok : ∀ k, k < 27 → parseFieldDescriptor (TX10 k).2.2.1 = some (tyX10 k) := by decide +kernel
abbrev cX10_empty : ByteArray := prog_4_method_3_code
def yX10_empty : MethodName := ⟨RX10, "empty", "()V"⟩
abbrev cX10_init : ByteArray := prog_4_method_1_code
def yX10_init : MethodName := ⟨RX10, "<init>", "(LStreamQueries$Expressions;LStreamQueries$Pool;)V"⟩
abbrev cX10_begin : ByteArray := prog_4_method_2_code
def yX10_begin : MethodName := ⟨RX10, "begin", "(ILStreamQueries$Node;LStreamQueries$Node;)V"⟩
abbrev cX10_setStream : ByteArray := prog_4_method_6_code
def yX10_setStream : MethodName := ⟨RX10, "setStream", "(IJ)V"⟩
abbrev cX10_setCondition : ByteArray := prog_4_method_8_code
def yX10_setCondition : MethodName := ⟨RX10, "setCondition", "(IZI)V"⟩
abbrev cX10_setList : ByteArray := prog_4_method_9_code
def yX10_setList : MethodName := ⟨RX10, "setList", "([II)V"⟩
abbrev cX10_setAggregates : ByteArray := prog_4_method_10_code
def yX10_setAggregates : MethodName := ⟨RX10, "setAggregates", "([II)V"⟩
abbrev cX10_setOrder : ByteArray := prog_4_method_11_code
def yX10_setOrder : MethodName := ⟨RX10, "setOrder", "([ZII)V"⟩
abbrev cX10_start : ByteArray := prog_4_method_12_code
def yX10_start : MethodName := ⟨RX10, "start", "(J)V"⟩
abbrev cX10_age : ByteArray := prog_4_method_7_code
def yX10_age : MethodName := ⟨RX10, "age", "(J)V"⟩
abbrev cX10_recount : ByteArray := prog_4_method_16_code
def yX10_recount : MethodName := ⟨RX10, "recount", "(Z)V"⟩
abbrev cX10_join : ByteArray := prog_4_method_19_code
def yX10_join : MethodName := ⟨RX10, "join", "()V"⟩
abbrev cX10_pairs : ByteArray := prog_4_method_22_code
def yX10_pairs : MethodName := ⟨RX10, "pairs", "(LStreamQueries$Bag;LStreamQueries$Bag;I)V"⟩
abbrev cX10_pair : ByteArray := prog_4_method_21_code
def yX10_pair : MethodName := ⟨RX10, "pair", "(LStreamQueries$Row;LStreamQueries$Row;)Z"⟩
abbrev cX10_isTrue : ByteArray := prog_4_method_17_code
def yX10_isTrue : MethodName := ⟨RX10, "isTrue", "(LStreamQueries$Row;)Z"⟩
abbrev cX10_differ : ByteArray := prog_4_method_20_code
def yX10_differ : MethodName := ⟨RX10, "differ", "()V"⟩
abbrev cX10_values : ByteArray := prog_4_method_18_code
def yX10_values : MethodName := ⟨RX10, "values", "(LStreamQueries$Row;LStreamQueries$Row;)V"⟩
abbrev cX10_group : ByteArray := prog_4_method_24_code
def yX10_group : MethodName := ⟨RX10, "group", "(Z)V"⟩
abbrev cX10_findKeys : ByteArray := prog_4_method_23_code
def yX10_findKeys : MethodName := ⟨RX10, "findKeys", "()V"⟩
abbrev cX10_one : ByteArray := prog_4_method_26_code
def yX10_one : MethodName := ⟨RX10, "one", "(LStreamQueries$Row;)V"⟩
abbrev cX10_isOf : ByteArray := prog_4_method_25_code
def yX10_isOf : MethodName := ⟨RX10, "isOf", "(LStreamQueries$Row;LStreamQueries$Row;)Z"⟩
abbrev cX10_aggregate : ByteArray := prog_4_method_27_code
def yX10_aggregate : MethodName := ⟨RX10, "aggregate", "(I)V"⟩
abbrev cX10_once : ByteArray := prog_4_method_28_code
def yX10_once : MethodName := ⟨RX10, "once", "(LStreamQueries$Bag;)V"⟩
abbrev cX10_top : ByteArray := prog_4_method_31_code
def yX10_top : MethodName := ⟨RX10, "top", "()V"⟩
abbrev cX10_sorted : ByteArray := prog_4_method_30_code
def yX10_sorted : MethodName := ⟨RX10, "sorted", "(LStreamQueries$Bag;)I"⟩
abbrev cX10_against : ByteArray := prog_4_method_29_code
def yX10_against : MethodName := ⟨RX10, "against", "(LStreamQueries$Row;LStreamQueries$Row;)I"⟩
abbrev cX10_feed : ByteArray := prog_4_method_13_code
def yX10_feed : MethodName := ⟨RX10, "feed", "(ILStreamQueries$Bag;ZJ)V"⟩
abbrev cX10_old : ByteArray := prog_4_method_15_code
def yX10_old : MethodName := ⟨RX10, "old", "()V"⟩
abbrev cX10_come : ByteArray := prog_4_method_14_code
def yX10_come : MethodName := ⟨RX10, "come", "(LStreamQueries$Bag;)V"⟩
abbrev cX10_delta : ByteArray := prog_4_method_5_code
def yX10_delta : MethodName := ⟨RX10, "delta", "()LStreamQueries$Bag;"⟩
abbrev cX10_out : ByteArray := prog_4_method_4_code
def yX10_out : MethodName := ⟨RX10, "out", "()LStreamQueries$Bag;"⟩
abbrev cX10_answer : ByteArray := prog_4_method_32_code
def yX10_answer : MethodName := ⟨RX10, "answer", "(I)LStreamQueries$Row;"⟩
abbrev cX10_held : ByteArray := prog_4_method_33_code
def yX10_held : MethodName := ⟨RX10, "held", "()I"⟩
theorem q179 : (Jvm.Cond.initialized "StreamQueries$Node") ∈ lw_all := lw_g (lw_at lw_m1 18 rfl) rfl
theorem q274 : (Jvm.Cond.fieldLinkNest "StreamQueries$Node" (258 : Nat) "StreamQueries$Expressions" "acts" "[I" "StreamQueries") ∈ lw_tbl := lw_at lw_m1 113 rfl
theorem q277 : (Jvm.Cond.fieldLinkNest "StreamQueries$Node" (261 : Nat) "StreamQueries$Expressions" "firsts" "[I" "StreamQueries") ∈ lw_tbl := lw_at lw_m1 116 rfl
theorem q503 : (Jvm.Cond.instanceMethod ({ cls := "StreamQueries$Node", name := "empty", desc := "()V" } : Jvm.MethodName)) ∈ lw_all := lw_g (lw_at lw_m2 102 rfl) rfl
theorem q504 : (Jvm.Cond.selects "StreamQueries$Node" ({ cls := "StreamQueries$Node", name := "empty", desc := "()V" } : Jvm.MethodName) ({ cls := "StreamQueries$Node", name := "empty", desc := "()V" } : Jvm.MethodName)) ∈ lw_all := lw_g (lw_at lw_m2 103 rfl) rfl
theorem q505 : (Jvm.Cond.code ({ cls := "StreamQueries$Node", name := "empty", desc := "()V" } : Jvm.MethodName) prog_4_method_3_code (1 : Nat) (Option.none : Option Jvm.ClassFile.FieldType)) ∈ lw_all := lw_g (lw_at lw_m2 104 rfl) rfl
theorem q506 : (Jvm.Cond.methodLink "StreamQueries$Node" (98 : Nat) ({ cls := "StreamQueries$Bag", name := "clear", desc := "()V" } : Jvm.MethodName)) ∈ lw_all := lw_g (lw_at lw_m2 105 rfl) rfl
theorem q1070 : (Jvm.Cond.instantiable "StreamQueries$Node" (27 : Nat)) ∈ lw_all := lw_g (lw_at lw_m4 189 rfl) rfl
theorem q1072 : (Jvm.Cond.instanceMethod ({ cls := "StreamQueries$Node", name := "<init>", desc := "(LStreamQueries$Expressions;LStreamQueries$Pool;)V" } : Jvm.MethodName)) ∈ lw_all := lw_g (lw_at lw_m4 191 rfl) rfl
theorem q1073 : (Jvm.Cond.code ({ cls := "StreamQueries$Node", name := "<init>", desc := "(LStreamQueries$Expressions;LStreamQueries$Pool;)V" } : Jvm.MethodName) prog_4_method_1_code (3 : Nat) (Option.none : Option Jvm.ClassFile.FieldType)) ∈ lw_all := lw_g (lw_at lw_m4 192 rfl) rfl
theorem q1074 : (Jvm.Cond.methodLink "StreamQueries$Node" (3 : Nat) ({ cls := "java/lang/Object", name := "<init>", desc := "()V" } : Jvm.MethodName)) ∈ lw_all := lw_g (lw_at lw_m4 193 rfl) rfl
theorem q1075 : (Jvm.Cond.classLink "StreamQueries$Node" (9 : Nat) "StreamQueries$Row") ∈ lw_all := lw_g (lw_at lw_m4 194 rfl) rfl
theorem q1076 : (Jvm.Cond.methodLinkNest "StreamQueries$Node" (11 : Nat) ({ cls := "StreamQueries$Row", name := "<init>", desc := "()V" } : Jvm.MethodName) "StreamQueries") ∈ lw_tbl := lw_at lw_m4 195 rfl
theorem q1077 : (Jvm.Cond.constantLong "StreamQueries$Node" (21 : Nat) (-1 : Int64)) ∈ lw_all := lw_g (lw_at lw_m4 196 rfl) rfl
theorem q1078 : (Jvm.Cond.constantLong "StreamQueries$Node" (29 : Nat) (-9223372036854775808 : Int64)) ∈ lw_all := lw_g (lw_at lw_m4 197 rfl) rfl
theorem q1079 : (Jvm.Cond.classLink "StreamQueries$Node" (60 : Nat) "StreamQueries$Bag") ∈ lw_all := lw_g (lw_at lw_m4 198 rfl) rfl
theorem q1080 : (Jvm.Cond.methodLink "StreamQueries$Node" (62 : Nat) ({ cls := "StreamQueries$Bag", name := "<init>", desc := "(LStreamQueries$Pool;)V" } : Jvm.MethodName)) ∈ lw_all := lw_g (lw_at lw_m4 199 rfl) rfl
theorem q1081 : (Jvm.Cond.fieldLink "StreamQueries$Node" (52 : Nat) "StreamQueries$Node" "expressions" "LStreamQueries$Expressions;") ∈ lw_all := lw_g (lw_at lw_m4 200 rfl) rfl
theorem q1082 : (Jvm.Cond.fieldLink "StreamQueries$Node" (56 : Nat) "StreamQueries$Node" "pool" "LStreamQueries$Pool;") ∈ lw_all := lw_g (lw_at lw_m4 201 rfl) rfl
theorem q1083 : (Jvm.Cond.fieldLink "StreamQueries$Node" (78 : Nat) "StreamQueries$Node" "kind" "I") ∈ lw_all := lw_g (lw_at lw_m4 202 rfl) rfl
theorem q1084 : (Jvm.Cond.fieldLink "StreamQueries$Node" (81 : Nat) "StreamQueries$Node" "left" "LStreamQueries$Node;") ∈ lw_all := lw_g (lw_at lw_m4 203 rfl) rfl
theorem q1085 : (Jvm.Cond.fieldLink "StreamQueries$Node" (85 : Nat) "StreamQueries$Node" "right" "LStreamQueries$Node;") ∈ lw_all := lw_g (lw_at lw_m4 204 rfl) rfl
theorem q1086 : (Jvm.Cond.fieldLink "StreamQueries$Node" (65 : Nat) "StreamQueries$Node" "out" "LStreamQueries$Bag;") ∈ lw_all := lw_g (lw_at lw_m4 205 rfl) rfl
theorem q1087 : (Jvm.Cond.fieldLink "StreamQueries$Node" (69 : Nat) "StreamQueries$Node" "delta" "LStreamQueries$Bag;") ∈ lw_all := lw_g (lw_at lw_m4 206 rfl) rfl
theorem q1088 : (Jvm.Cond.fieldLink "StreamQueries$Node" (72 : Nat) "StreamQueries$Node" "alone" "LStreamQueries$Bag;") ∈ lw_all := lw_g (lw_at lw_m4 207 rfl) rfl
theorem q1089 : (Jvm.Cond.fieldLink "StreamQueries$Node" (75 : Nat) "StreamQueries$Node" "fresh" "LStreamQueries$Bag;") ∈ lw_all := lw_g (lw_at lw_m4 208 rfl) rfl
theorem q1090 : (Jvm.Cond.fieldLink "StreamQueries$Node" (12 : Nat) "StreamQueries$Node" "row" "LStreamQueries$Row;") ∈ lw_all := lw_g (lw_at lw_m4 209 rfl) rfl
theorem q1091 : (Jvm.Cond.fieldLink "StreamQueries$Node" (18 : Nat) "StreamQueries$Node" "key" "LStreamQueries$Row;") ∈ lw_all := lw_g (lw_at lw_m4 210 rfl) rfl
theorem q1092 : (Jvm.Cond.fieldLink "StreamQueries$Node" (101 : Nat) "StreamQueries$Node" "stream" "I") ∈ lw_all := lw_g (lw_at lw_m4 211 rfl) rfl
theorem q1093 : (Jvm.Cond.fieldLink "StreamQueries$Node" (23 : Nat) "StreamQueries$Node" "keep" "J") ∈ lw_all := lw_g (lw_at lw_m4 212 rfl) rfl
theorem q1094 : (Jvm.Cond.fieldLink "StreamQueries$Node" (31 : Nat) "StreamQueries$Node" "oldest" "J") ∈ lw_all := lw_g (lw_at lw_m4 213 rfl) rfl
theorem q1095 : (Jvm.Cond.fieldLink "StreamQueries$Node" (34 : Nat) "StreamQueries$Node" "condition" "I") ∈ lw_all := lw_g (lw_at lw_m4 214 rfl) rfl
theorem q1096 : (Jvm.Cond.fieldLink "StreamQueries$Node" (88 : Nat) "StreamQueries$Node" "isLeft" "Z") ∈ lw_all := lw_g (lw_at lw_m4 215 rfl) rfl
theorem q1097 : (Jvm.Cond.fieldLink "StreamQueries$Node" (104 : Nat) "StreamQueries$Node" "wide" "I") ∈ lw_all := lw_g (lw_at lw_m4 216 rfl) rfl
theorem q1098 : (Jvm.Cond.fieldLink "StreamQueries$Node" (38 : Nat) "StreamQueries$Node" "list" "[I") ∈ lw_all := lw_g (lw_at lw_m4 217 rfl) rfl
theorem q1099 : (Jvm.Cond.fieldLink "StreamQueries$Node" (92 : Nat) "StreamQueries$Node" "listed" "I") ∈ lw_all := lw_g (lw_at lw_m4 218 rfl) rfl
theorem q1100 : (Jvm.Cond.fieldLink "StreamQueries$Node" (42 : Nat) "StreamQueries$Node" "aggregates" "[I") ∈ lw_all := lw_g (lw_at lw_m4 219 rfl) rfl
theorem q1101 : (Jvm.Cond.fieldLink "StreamQueries$Node" (95 : Nat) "StreamQueries$Node" "aggregated" "I") ∈ lw_all := lw_g (lw_at lw_m4 220 rfl) rfl
theorem q1102 : (Jvm.Cond.fieldLink "StreamQueries$Node" (45 : Nat) "StreamQueries$Node" "isDown" "[Z") ∈ lw_all := lw_g (lw_at lw_m4 221 rfl) rfl
theorem q1103 : (Jvm.Cond.fieldLink "StreamQueries$Node" (113 : Nat) "StreamQueries$Node" "most" "I") ∈ lw_all := lw_g (lw_at lw_m4 222 rfl) rfl
theorem q1104 : (Jvm.Cond.fieldLink "StreamQueries$Node" (230 : Nat) "StreamQueries$Node" "keys" "[LStreamQueries$Row;") ∈ lw_all := lw_g (lw_at lw_m4 223 rfl) rfl
theorem q1105 : (Jvm.Cond.fieldLink "StreamQueries$Node" (237 : Nat) "StreamQueries$Node" "matches" "[I") ∈ lw_all := lw_g (lw_at lw_m4 224 rfl) rfl
theorem q1106 : (Jvm.Cond.fieldLink "StreamQueries$Node" (252 : Nat) "StreamQueries$Node" "many" "I") ∈ lw_all := lw_g (lw_at lw_m4 225 rfl) rfl
theorem q1107 : (Jvm.Cond.fieldLink "StreamQueries$Node" (49 : Nat) "StreamQueries$Node" "order" "[I") ∈ lw_all := lw_g (lw_at lw_m4 226 rfl) rfl
theorem q1108 : (Jvm.Cond.laysFinal "StreamQueries$Node" "StreamQueries$Node" "expressions" "LStreamQueries$Expressions;") ∈ lw_all := lw_g (lw_at lw_m4 227 rfl) rfl
theorem q1109 : (Jvm.Cond.soleField "StreamQueries$Node" "expressions") ∈ lw_all := lw_g (lw_at lw_m4 228 rfl) rfl
theorem q1110 : (Jvm.Cond.laysFinal "StreamQueries$Node" "StreamQueries$Node" "pool" "LStreamQueries$Pool;") ∈ lw_all := lw_g (lw_at lw_m4 229 rfl) rfl
theorem q1111 : (Jvm.Cond.soleField "StreamQueries$Node" "pool") ∈ lw_all := lw_g (lw_at lw_m4 230 rfl) rfl
theorem q1112 : (Jvm.Cond.lays "StreamQueries$Node" "StreamQueries$Node" "kind" "I") ∈ lw_all := lw_g (lw_at lw_m4 231 rfl) rfl
theorem q1113 : (Jvm.Cond.soleField "StreamQueries$Node" "kind") ∈ lw_all := lw_g (lw_at lw_m4 232 rfl) rfl
theorem q1114 : (Jvm.Cond.lays "StreamQueries$Node" "StreamQueries$Node" "left" "LStreamQueries$Node;") ∈ lw_all := lw_g (lw_at lw_m4 233 rfl) rfl
theorem q1115 : (Jvm.Cond.soleField "StreamQueries$Node" "left") ∈ lw_all := lw_g (lw_at lw_m4 234 rfl) rfl
theorem q1116 : (Jvm.Cond.lays "StreamQueries$Node" "StreamQueries$Node" "right" "LStreamQueries$Node;") ∈ lw_all := lw_g (lw_at lw_m4 235 rfl) rfl
theorem q1117 : (Jvm.Cond.soleField "StreamQueries$Node" "right") ∈ lw_all := lw_g (lw_at lw_m4 236 rfl) rfl
theorem q1118 : (Jvm.Cond.laysFinal "StreamQueries$Node" "StreamQueries$Node" "out" "LStreamQueries$Bag;") ∈ lw_all := lw_g (lw_at lw_m4 237 rfl) rfl
theorem q1119 : (Jvm.Cond.soleField "StreamQueries$Node" "out") ∈ lw_all := lw_g (lw_at lw_m4 238 rfl) rfl
theorem q1120 : (Jvm.Cond.laysFinal "StreamQueries$Node" "StreamQueries$Node" "delta" "LStreamQueries$Bag;") ∈ lw_all := lw_g (lw_at lw_m4 239 rfl) rfl
theorem q1121 : (Jvm.Cond.soleField "StreamQueries$Node" "delta") ∈ lw_all := lw_g (lw_at lw_m5 0 rfl) rfl
theorem q1122 : (Jvm.Cond.laysFinal "StreamQueries$Node" "StreamQueries$Node" "alone" "LStreamQueries$Bag;") ∈ lw_all := lw_g (lw_at lw_m5 1 rfl) rfl
theorem q1123 : (Jvm.Cond.soleField "StreamQueries$Node" "alone") ∈ lw_all := lw_g (lw_at lw_m5 2 rfl) rfl
theorem q1124 : (Jvm.Cond.laysFinal "StreamQueries$Node" "StreamQueries$Node" "fresh" "LStreamQueries$Bag;") ∈ lw_all := lw_g (lw_at lw_m5 3 rfl) rfl
theorem q1125 : (Jvm.Cond.soleField "StreamQueries$Node" "fresh") ∈ lw_all := lw_g (lw_at lw_m5 4 rfl) rfl
theorem q1126 : (Jvm.Cond.laysFinal "StreamQueries$Node" "StreamQueries$Node" "row" "LStreamQueries$Row;") ∈ lw_all := lw_g (lw_at lw_m5 5 rfl) rfl
theorem q1127 : (Jvm.Cond.soleField "StreamQueries$Node" "row") ∈ lw_all := lw_g (lw_at lw_m5 6 rfl) rfl
theorem q1128 : (Jvm.Cond.laysFinal "StreamQueries$Node" "StreamQueries$Node" "key" "LStreamQueries$Row;") ∈ lw_all := lw_g (lw_at lw_m5 7 rfl) rfl
theorem q1129 : (Jvm.Cond.soleField "StreamQueries$Node" "key") ∈ lw_all := lw_g (lw_at lw_m5 8 rfl) rfl
theorem q1130 : (Jvm.Cond.lays "StreamQueries$Node" "StreamQueries$Node" "stream" "I") ∈ lw_all := lw_g (lw_at lw_m5 9 rfl) rfl
theorem q1131 : (Jvm.Cond.soleField "StreamQueries$Node" "stream") ∈ lw_all := lw_g (lw_at lw_m5 10 rfl) rfl
theorem q1132 : (Jvm.Cond.lays "StreamQueries$Node" "StreamQueries$Node" "keep" "J") ∈ lw_all := lw_g (lw_at lw_m5 11 rfl) rfl
theorem q1133 : (Jvm.Cond.soleField "StreamQueries$Node" "keep") ∈ lw_all := lw_g (lw_at lw_m5 12 rfl) rfl
theorem q1134 : (Jvm.Cond.lays "StreamQueries$Node" "StreamQueries$Node" "oldest" "J") ∈ lw_all := lw_g (lw_at lw_m5 13 rfl) rfl
theorem q1135 : (Jvm.Cond.soleField "StreamQueries$Node" "oldest") ∈ lw_all := lw_g (lw_at lw_m5 14 rfl) rfl
theorem q1136 : (Jvm.Cond.lays "StreamQueries$Node" "StreamQueries$Node" "condition" "I") ∈ lw_all := lw_g (lw_at lw_m5 15 rfl) rfl
theorem q1137 : (Jvm.Cond.soleField "StreamQueries$Node" "condition") ∈ lw_all := lw_g (lw_at lw_m5 16 rfl) rfl
theorem q1138 : (Jvm.Cond.lays "StreamQueries$Node" "StreamQueries$Node" "isLeft" "Z") ∈ lw_all := lw_g (lw_at lw_m5 17 rfl) rfl
theorem q1139 : (Jvm.Cond.soleField "StreamQueries$Node" "isLeft") ∈ lw_all := lw_g (lw_at lw_m5 18 rfl) rfl
theorem q1140 : (Jvm.Cond.lays "StreamQueries$Node" "StreamQueries$Node" "wide" "I") ∈ lw_all := lw_g (lw_at lw_m5 19 rfl) rfl
theorem q1141 : (Jvm.Cond.soleField "StreamQueries$Node" "wide") ∈ lw_all := lw_g (lw_at lw_m5 20 rfl) rfl
theorem q1142 : (Jvm.Cond.laysFinal "StreamQueries$Node" "StreamQueries$Node" "list" "[I") ∈ lw_all := lw_g (lw_at lw_m5 21 rfl) rfl
theorem q1143 : (Jvm.Cond.soleField "StreamQueries$Node" "list") ∈ lw_all := lw_g (lw_at lw_m5 22 rfl) rfl
theorem q1144 : (Jvm.Cond.lays "StreamQueries$Node" "StreamQueries$Node" "listed" "I") ∈ lw_all := lw_g (lw_at lw_m5 23 rfl) rfl
theorem q1145 : (Jvm.Cond.soleField "StreamQueries$Node" "listed") ∈ lw_all := lw_g (lw_at lw_m5 24 rfl) rfl
theorem q1146 : (Jvm.Cond.laysFinal "StreamQueries$Node" "StreamQueries$Node" "aggregates" "[I") ∈ lw_all := lw_g (lw_at lw_m5 25 rfl) rfl
theorem q1147 : (Jvm.Cond.soleField "StreamQueries$Node" "aggregates") ∈ lw_all := lw_g (lw_at lw_m5 26 rfl) rfl
theorem q1148 : (Jvm.Cond.lays "StreamQueries$Node" "StreamQueries$Node" "aggregated" "I") ∈ lw_all := lw_g (lw_at lw_m5 27 rfl) rfl
theorem q1149 : (Jvm.Cond.soleField "StreamQueries$Node" "aggregated") ∈ lw_all := lw_g (lw_at lw_m5 28 rfl) rfl
theorem q1150 : (Jvm.Cond.laysFinal "StreamQueries$Node" "StreamQueries$Node" "isDown" "[Z") ∈ lw_all := lw_g (lw_at lw_m5 29 rfl) rfl
theorem q1151 : (Jvm.Cond.soleField "StreamQueries$Node" "isDown") ∈ lw_all := lw_g (lw_at lw_m5 30 rfl) rfl
theorem q1152 : (Jvm.Cond.lays "StreamQueries$Node" "StreamQueries$Node" "most" "I") ∈ lw_all := lw_g (lw_at lw_m5 31 rfl) rfl
theorem q1153 : (Jvm.Cond.soleField "StreamQueries$Node" "most") ∈ lw_all := lw_g (lw_at lw_m5 32 rfl) rfl
theorem q1154 : (Jvm.Cond.lays "StreamQueries$Node" "StreamQueries$Node" "keys" "[LStreamQueries$Row;") ∈ lw_all := lw_g (lw_at lw_m5 33 rfl) rfl
theorem q1155 : (Jvm.Cond.soleField "StreamQueries$Node" "keys") ∈ lw_all := lw_g (lw_at lw_m5 34 rfl) rfl
theorem q1156 : (Jvm.Cond.lays "StreamQueries$Node" "StreamQueries$Node" "matches" "[I") ∈ lw_all := lw_g (lw_at lw_m5 35 rfl) rfl
theorem q1157 : (Jvm.Cond.soleField "StreamQueries$Node" "matches") ∈ lw_all := lw_g (lw_at lw_m5 36 rfl) rfl
theorem q1158 : (Jvm.Cond.lays "StreamQueries$Node" "StreamQueries$Node" "many" "I") ∈ lw_all := lw_g (lw_at lw_m5 37 rfl) rfl
theorem q1159 : (Jvm.Cond.soleField "StreamQueries$Node" "many") ∈ lw_all := lw_g (lw_at lw_m5 38 rfl) rfl
theorem q1160 : (Jvm.Cond.lays "StreamQueries$Node" "StreamQueries$Node" "order" "[I") ∈ lw_all := lw_g (lw_at lw_m5 39 rfl) rfl
theorem q1161 : (Jvm.Cond.soleField "StreamQueries$Node" "order") ∈ lw_all := lw_g (lw_at lw_m5 40 rfl) rfl
theorem q1162 : (Jvm.Cond.superclass "StreamQueries$Node" "java/lang/Object") ∈ lw_all := lw_g (lw_at lw_m5 41 rfl) rfl
theorem q1164 : (Jvm.Cond.instanceMethod ({ cls := "StreamQueries$Node", name := "begin", desc := "(ILStreamQueries$Node;LStreamQueries$Node;)V" } : Jvm.MethodName)) ∈ lw_all := lw_g (lw_at lw_m5 43 rfl) rfl
theorem q1165 : (Jvm.Cond.selects "StreamQueries$Node" ({ cls := "StreamQueries$Node", name := "begin", desc := "(ILStreamQueries$Node;LStreamQueries$Node;)V" } : Jvm.MethodName) ({ cls := "StreamQueries$Node", name := "begin", desc := "(ILStreamQueries$Node;LStreamQueries$Node;)V" } : Jvm.MethodName)) ∈ lw_all := lw_g (lw_at lw_m5 44 rfl) rfl
theorem q1166 : (Jvm.Cond.code ({ cls := "StreamQueries$Node", name := "begin", desc := "(ILStreamQueries$Node;LStreamQueries$Node;)V" } : Jvm.MethodName) prog_4_method_2_code (4 : Nat) (Option.none : Option Jvm.ClassFile.FieldType)) ∈ lw_all := lw_g (lw_at lw_m5 45 rfl) rfl
theorem q1168 : (Jvm.Cond.instanceMethod ({ cls := "StreamQueries$Node", name := "setStream", desc := "(IJ)V" } : Jvm.MethodName)) ∈ lw_all := lw_g (lw_at lw_m5 47 rfl) rfl
theorem q1169 : (Jvm.Cond.selects "StreamQueries$Node" ({ cls := "StreamQueries$Node", name := "setStream", desc := "(IJ)V" } : Jvm.MethodName) ({ cls := "StreamQueries$Node", name := "setStream", desc := "(IJ)V" } : Jvm.MethodName)) ∈ lw_all := lw_g (lw_at lw_m5 48 rfl) rfl
theorem q1170 : (Jvm.Cond.code ({ cls := "StreamQueries$Node", name := "setStream", desc := "(IJ)V" } : Jvm.MethodName) prog_4_method_6_code (4 : Nat) (Option.none : Option Jvm.ClassFile.FieldType)) ∈ lw_all := lw_g (lw_at lw_m5 49 rfl) rfl
theorem q1212 : (Jvm.Cond.instanceMethod ({ cls := "StreamQueries$Node", name := "setCondition", desc := "(IZI)V" } : Jvm.MethodName)) ∈ lw_all := lw_g (lw_at lw_m5 91 rfl) rfl
theorem q1213 : (Jvm.Cond.selects "StreamQueries$Node" ({ cls := "StreamQueries$Node", name := "setCondition", desc := "(IZI)V" } : Jvm.MethodName) ({ cls := "StreamQueries$Node", name := "setCondition", desc := "(IZI)V" } : Jvm.MethodName)) ∈ lw_all := lw_g (lw_at lw_m5 92 rfl) rfl
theorem q1214 : (Jvm.Cond.code ({ cls := "StreamQueries$Node", name := "setCondition", desc := "(IZI)V" } : Jvm.MethodName) prog_4_method_8_code (4 : Nat) (Option.none : Option Jvm.ClassFile.FieldType)) ∈ lw_all := lw_g (lw_at lw_m5 93 rfl) rfl
theorem q1220 : (Jvm.Cond.instanceMethod ({ cls := "StreamQueries$Node", name := "setList", desc := "([II)V" } : Jvm.MethodName)) ∈ lw_all := lw_g (lw_at lw_m5 99 rfl) rfl
theorem q1221 : (Jvm.Cond.selects "StreamQueries$Node" ({ cls := "StreamQueries$Node", name := "setList", desc := "([II)V" } : Jvm.MethodName) ({ cls := "StreamQueries$Node", name := "setList", desc := "([II)V" } : Jvm.MethodName)) ∈ lw_all := lw_g (lw_at lw_m5 100 rfl) rfl
theorem q1222 : (Jvm.Cond.code ({ cls := "StreamQueries$Node", name := "setList", desc := "([II)V" } : Jvm.MethodName) prog_4_method_9_code (3 : Nat) (Option.none : Option Jvm.ClassFile.FieldType)) ∈ lw_all := lw_g (lw_at lw_m5 101 rfl) rfl
theorem q1223 : (Jvm.Cond.methodLink "StreamQueries$Node" (107 : Nat) ({ cls := "java/lang/System", name := "arraycopy", desc := "(Ljava/lang/Object;ILjava/lang/Object;II)V" } : Jvm.MethodName)) ∈ lw_all := lw_g (lw_at lw_m5 102 rfl) rfl
theorem q1225 : (Jvm.Cond.instanceMethod ({ cls := "StreamQueries$Node", name := "setAggregates", desc := "([II)V" } : Jvm.MethodName)) ∈ lw_all := lw_g (lw_at lw_m5 104 rfl) rfl
theorem q1226 : (Jvm.Cond.selects "StreamQueries$Node" ({ cls := "StreamQueries$Node", name := "setAggregates", desc := "([II)V" } : Jvm.MethodName) ({ cls := "StreamQueries$Node", name := "setAggregates", desc := "([II)V" } : Jvm.MethodName)) ∈ lw_all := lw_g (lw_at lw_m5 105 rfl) rfl
theorem q1227 : (Jvm.Cond.code ({ cls := "StreamQueries$Node", name := "setAggregates", desc := "([II)V" } : Jvm.MethodName) prog_4_method_10_code (3 : Nat) (Option.none : Option Jvm.ClassFile.FieldType)) ∈ lw_all := lw_g (lw_at lw_m5 106 rfl) rfl
theorem q1233 : (Jvm.Cond.instanceMethod ({ cls := "StreamQueries$Node", name := "setOrder", desc := "([ZII)V" } : Jvm.MethodName)) ∈ lw_all := lw_g (lw_at lw_m5 112 rfl) rfl
theorem q1234 : (Jvm.Cond.selects "StreamQueries$Node" ({ cls := "StreamQueries$Node", name := "setOrder", desc := "([ZII)V" } : Jvm.MethodName) ({ cls := "StreamQueries$Node", name := "setOrder", desc := "([ZII)V" } : Jvm.MethodName)) ∈ lw_all := lw_g (lw_at lw_m5 113 rfl) rfl
theorem q1235 : (Jvm.Cond.code ({ cls := "StreamQueries$Node", name := "setOrder", desc := "([ZII)V" } : Jvm.MethodName) prog_4_method_11_code (4 : Nat) (Option.none : Option Jvm.ClassFile.FieldType)) ∈ lw_all := lw_g (lw_at lw_m5 114 rfl) rfl
theorem q1250 : (Jvm.Cond.instanceMethod ({ cls := "StreamQueries$Node", name := "start", desc := "(J)V" } : Jvm.MethodName)) ∈ lw_all := lw_g (lw_at lw_m5 129 rfl) rfl
theorem q1251 : (Jvm.Cond.selects "StreamQueries$Node" ({ cls := "StreamQueries$Node", name := "start", desc := "(J)V" } : Jvm.MethodName) ({ cls := "StreamQueries$Node", name := "start", desc := "(J)V" } : Jvm.MethodName)) ∈ lw_all := lw_g (lw_at lw_m5 130 rfl) rfl
theorem q1252 : (Jvm.Cond.code ({ cls := "StreamQueries$Node", name := "start", desc := "(J)V" } : Jvm.MethodName) prog_4_method_12_code (3 : Nat) (Option.none : Option Jvm.ClassFile.FieldType)) ∈ lw_all := lw_g (lw_at lw_m5 131 rfl) rfl
theorem q1253 : (Jvm.Cond.methodLink "StreamQueries$Node" (116 : Nat) ({ cls := "StreamQueries$Node", name := "empty", desc := "()V" } : Jvm.MethodName)) ∈ lw_all := lw_g (lw_at lw_m5 132 rfl) rfl
theorem q1254 : (Jvm.Cond.methodLink "StreamQueries$Node" (119 : Nat) ({ cls := "StreamQueries$Node", name := "start", desc := "(J)V" } : Jvm.MethodName)) ∈ lw_all := lw_g (lw_at lw_m5 133 rfl) rfl
theorem q1255 : (Jvm.Cond.methodLink "StreamQueries$Node" (123 : Nat) ({ cls := "StreamQueries$Node", name := "age", desc := "(J)V" } : Jvm.MethodName)) ∈ lw_all := lw_g (lw_at lw_m5 134 rfl) rfl
theorem q1256 : (Jvm.Cond.privateMethod ({ cls := "StreamQueries$Node", name := "age", desc := "(J)V" } : Jvm.MethodName)) ∈ lw_tbl := lw_at lw_m5 135 rfl
theorem q1257 : (Jvm.Cond.instanceMethod ({ cls := "StreamQueries$Node", name := "age", desc := "(J)V" } : Jvm.MethodName)) ∈ lw_all := lw_g (lw_at lw_m5 136 rfl) rfl
theorem q1258 : (Jvm.Cond.code ({ cls := "StreamQueries$Node", name := "age", desc := "(J)V" } : Jvm.MethodName) prog_4_method_7_code (3 : Nat) (Option.none : Option Jvm.ClassFile.FieldType)) ∈ lw_all := lw_g (lw_at lw_m5 137 rfl) rfl
theorem q1259 : (Jvm.Cond.methodLink "StreamQueries$Node" (126 : Nat) ({ cls := "StreamQueries$Node", name := "recount", desc := "(Z)V" } : Jvm.MethodName)) ∈ lw_all := lw_g (lw_at lw_m5 138 rfl) rfl
theorem q1260 : (Jvm.Cond.privateMethod ({ cls := "StreamQueries$Node", name := "recount", desc := "(Z)V" } : Jvm.MethodName)) ∈ lw_tbl := lw_at lw_m5 139 rfl
theorem q1261 : (Jvm.Cond.instanceMethod ({ cls := "StreamQueries$Node", name := "recount", desc := "(Z)V" } : Jvm.MethodName)) ∈ lw_all := lw_g (lw_at lw_m5 140 rfl) rfl
theorem q1262 : (Jvm.Cond.code ({ cls := "StreamQueries$Node", name := "recount", desc := "(Z)V" } : Jvm.MethodName) prog_4_method_16_code (3 : Nat) (Option.none : Option Jvm.ClassFile.FieldType)) ∈ lw_all := lw_g (lw_at lw_m5 141 rfl) rfl
theorem q1263 : (Jvm.Cond.methodLink "StreamQueries$Node" (168 : Nat) ({ cls := "StreamQueries$Node", name := "join", desc := "()V" } : Jvm.MethodName)) ∈ lw_all := lw_g (lw_at lw_m5 142 rfl) rfl
theorem q1264 : (Jvm.Cond.privateMethod ({ cls := "StreamQueries$Node", name := "join", desc := "()V" } : Jvm.MethodName)) ∈ lw_tbl := lw_at lw_m5 143 rfl
theorem q1265 : (Jvm.Cond.instanceMethod ({ cls := "StreamQueries$Node", name := "join", desc := "()V" } : Jvm.MethodName)) ∈ lw_all := lw_g (lw_at lw_m5 144 rfl) rfl
theorem q1266 : (Jvm.Cond.code ({ cls := "StreamQueries$Node", name := "join", desc := "()V" } : Jvm.MethodName) prog_4_method_19_code (4 : Nat) (Option.none : Option Jvm.ClassFile.FieldType)) ∈ lw_all := lw_g (lw_at lw_m5 145 rfl) rfl
theorem q1267 : (Jvm.Cond.methodLink "StreamQueries$Node" (203 : Nat) ({ cls := "StreamQueries$Node", name := "pairs", desc := "(LStreamQueries$Bag;LStreamQueries$Bag;I)V" } : Jvm.MethodName)) ∈ lw_all := lw_g (lw_at lw_m5 146 rfl) rfl
theorem q1268 : (Jvm.Cond.privateMethod ({ cls := "StreamQueries$Node", name := "pairs", desc := "(LStreamQueries$Bag;LStreamQueries$Bag;I)V" } : Jvm.MethodName)) ∈ lw_tbl := lw_at lw_m5 147 rfl
theorem q1269 : (Jvm.Cond.instanceMethod ({ cls := "StreamQueries$Node", name := "pairs", desc := "(LStreamQueries$Bag;LStreamQueries$Bag;I)V" } : Jvm.MethodName)) ∈ lw_all := lw_g (lw_at lw_m5 148 rfl) rfl
theorem q1270 : (Jvm.Cond.code ({ cls := "StreamQueries$Node", name := "pairs", desc := "(LStreamQueries$Bag;LStreamQueries$Bag;I)V" } : Jvm.MethodName) prog_4_method_22_code (6 : Nat) (Option.none : Option Jvm.ClassFile.FieldType)) ∈ lw_all := lw_g (lw_at lw_m5 149 rfl) rfl
theorem q1271 : (Jvm.Cond.methodLink "StreamQueries$Node" (144 : Nat) ({ cls := "StreamQueries$Bag", name := "size", desc := "()I" } : Jvm.MethodName)) ∈ lw_all := lw_g (lw_at lw_m5 150 rfl) rfl
theorem q1275 : (Jvm.Cond.methodLink "StreamQueries$Node" (148 : Nat) ({ cls := "StreamQueries$Bag", name := "row", desc := "(I)LStreamQueries$Row;" } : Jvm.MethodName)) ∈ lw_all := lw_g (lw_at lw_m5 154 rfl) rfl
theorem q1279 : (Jvm.Cond.methodLink "StreamQueries$Node" (207 : Nat) ({ cls := "StreamQueries$Node", name := "pair", desc := "(LStreamQueries$Row;LStreamQueries$Row;)Z" } : Jvm.MethodName)) ∈ lw_all := lw_g (lw_at lw_m5 158 rfl) rfl
theorem q1280 : (Jvm.Cond.privateMethod ({ cls := "StreamQueries$Node", name := "pair", desc := "(LStreamQueries$Row;LStreamQueries$Row;)Z" } : Jvm.MethodName)) ∈ lw_tbl := lw_at lw_m5 159 rfl
theorem q1281 : (Jvm.Cond.instanceMethod ({ cls := "StreamQueries$Node", name := "pair", desc := "(LStreamQueries$Row;LStreamQueries$Row;)Z" } : Jvm.MethodName)) ∈ lw_all := lw_g (lw_at lw_m5 160 rfl) rfl
theorem q1282 : (Jvm.Cond.code ({ cls := "StreamQueries$Node", name := "pair", desc := "(LStreamQueries$Row;LStreamQueries$Row;)Z" } : Jvm.MethodName) prog_4_method_21_code (3 : Nat) (Option.some Jvm.ClassFile.FieldType.boolean)) ∈ lw_all := lw_g (lw_at lw_m5 161 rfl) rfl
theorem q1283 : (Jvm.Cond.methodLink "StreamQueries$Node" (211 : Nat) ({ cls := "StreamQueries$Row", name := "take", desc := "(LStreamQueries$Row;)V" } : Jvm.MethodName)) ∈ lw_all := lw_g (lw_at lw_m5 162 rfl) rfl
theorem q1303 : (Jvm.Cond.methodLink "StreamQueries$Node" (222 : Nat) ({ cls := "StreamQueries$Row", name := "join", desc := "(LStreamQueries$Row;)V" } : Jvm.MethodName)) ∈ lw_all := lw_g (lw_at lw_m5 182 rfl) rfl
theorem q1304 : (Jvm.Cond.methodLink "StreamQueries$Node" (171 : Nat) ({ cls := "StreamQueries$Node", name := "isTrue", desc := "(LStreamQueries$Row;)Z" } : Jvm.MethodName)) ∈ lw_all := lw_g (lw_at lw_m5 183 rfl) rfl
theorem q1305 : (Jvm.Cond.privateMethod ({ cls := "StreamQueries$Node", name := "isTrue", desc := "(LStreamQueries$Row;)Z" } : Jvm.MethodName)) ∈ lw_tbl := lw_at lw_m5 184 rfl
theorem q1306 : (Jvm.Cond.instanceMethod ({ cls := "StreamQueries$Node", name := "isTrue", desc := "(LStreamQueries$Row;)Z" } : Jvm.MethodName)) ∈ lw_all := lw_g (lw_at lw_m5 185 rfl) rfl
theorem q1307 : (Jvm.Cond.code ({ cls := "StreamQueries$Node", name := "isTrue", desc := "(LStreamQueries$Row;)Z" } : Jvm.MethodName) prog_4_method_17_code (2 : Nat) (Option.some Jvm.ClassFile.FieldType.boolean)) ∈ lw_all := lw_g (lw_at lw_m5 186 rfl) rfl
theorem q1308 : (Jvm.Cond.methodLink "StreamQueries$Node" (188 : Nat) ({ cls := "StreamQueries$Expressions", name := "of", desc := "(ILStreamQueries$Row;)J" } : Jvm.MethodName)) ∈ lw_all := lw_g (lw_at lw_m5 187 rfl) rfl
theorem q1333 : (Jvm.Cond.methodLink "StreamQueries$Node" (194 : Nat) ({ cls := "StreamQueries$Expressions", name := "isNull", desc := "()Z" } : Jvm.MethodName)) ∈ lw_all := lw_g (lw_at lw_m5 212 rfl) rfl
theorem q1337 : (Jvm.Cond.methodLink "StreamQueries$Node" (151 : Nat) ({ cls := "StreamQueries$Bag", name := "times", desc := "(I)I" } : Jvm.MethodName)) ∈ lw_all := lw_g (lw_at lw_m5 216 rfl) rfl
theorem q1341 : (Jvm.Cond.methodLink "StreamQueries$Node" (164 : Nat) ({ cls := "StreamQueries$Bag", name := "add", desc := "(LStreamQueries$Row;I)V" } : Jvm.MethodName)) ∈ lw_all := lw_g (lw_at lw_m5 220 rfl) rfl
theorem q1374 : (Jvm.Cond.methodLink "StreamQueries$Node" (215 : Nat) ({ cls := "StreamQueries$Row", name := "nulls", desc := "(I)V" } : Jvm.MethodName)) ∈ lw_all := lw_g (lw_at lw_m6 13 rfl) rfl
theorem q1378 : (Jvm.Cond.methodLink "StreamQueries$Node" (219 : Nat) ({ cls := "StreamQueries$Node", name := "differ", desc := "()V" } : Jvm.MethodName)) ∈ lw_all := lw_g (lw_at lw_m6 17 rfl) rfl
theorem q1379 : (Jvm.Cond.privateMethod ({ cls := "StreamQueries$Node", name := "differ", desc := "()V" } : Jvm.MethodName)) ∈ lw_tbl := lw_at lw_m6 18 rfl
theorem q1380 : (Jvm.Cond.instanceMethod ({ cls := "StreamQueries$Node", name := "differ", desc := "()V" } : Jvm.MethodName)) ∈ lw_all := lw_g (lw_at lw_m6 19 rfl) rfl
theorem q1381 : (Jvm.Cond.code ({ cls := "StreamQueries$Node", name := "differ", desc := "()V" } : Jvm.MethodName) prog_4_method_20_code (2 : Nat) (Option.none : Option Jvm.ClassFile.FieldType)) ∈ lw_all := lw_g (lw_at lw_m6 20 rfl) rfl
theorem q1382 : (Jvm.Cond.methodLink "StreamQueries$Node" (137 : Nat) ({ cls := "StreamQueries$Bag", name := "addAll", desc := "(LStreamQueries$Bag;)V" } : Jvm.MethodName)) ∈ lw_all := lw_g (lw_at lw_m6 21 rfl) rfl
theorem q1387 : (Jvm.Cond.methodLink "StreamQueries$Node" (175 : Nat) ({ cls := "StreamQueries$Node", name := "values", desc := "(LStreamQueries$Row;LStreamQueries$Row;)V" } : Jvm.MethodName)) ∈ lw_all := lw_g (lw_at lw_m6 26 rfl) rfl
theorem q1388 : (Jvm.Cond.privateMethod ({ cls := "StreamQueries$Node", name := "values", desc := "(LStreamQueries$Row;LStreamQueries$Row;)V" } : Jvm.MethodName)) ∈ lw_tbl := lw_at lw_m6 27 rfl
theorem q1389 : (Jvm.Cond.instanceMethod ({ cls := "StreamQueries$Node", name := "values", desc := "(LStreamQueries$Row;LStreamQueries$Row;)V" } : Jvm.MethodName)) ∈ lw_all := lw_g (lw_at lw_m6 28 rfl) rfl
theorem q1390 : (Jvm.Cond.code ({ cls := "StreamQueries$Node", name := "values", desc := "(LStreamQueries$Row;LStreamQueries$Row;)V" } : Jvm.MethodName) prog_4_method_18_code (6 : Nat) (Option.none : Option Jvm.ClassFile.FieldType)) ∈ lw_all := lw_g (lw_at lw_m6 29 rfl) rfl
theorem q1391 : (Jvm.Cond.methodLink "StreamQueries$Node" (198 : Nat) ({ cls := "StreamQueries$Row", name := "clear", desc := "()V" } : Jvm.MethodName)) ∈ lw_all := lw_g (lw_at lw_m6 30 rfl) rfl
theorem q1392 : (Jvm.Cond.methodLink "StreamQueries$Node" (199 : Nat) ({ cls := "StreamQueries$Row", name := "append", desc := "(JZI)I" } : Jvm.MethodName)) ∈ lw_all := lw_g (lw_at lw_m6 31 rfl) rfl
theorem q1393 : (Jvm.Cond.methodLink "StreamQueries$Node" (179 : Nat) ({ cls := "StreamQueries$Node", name := "group", desc := "(Z)V" } : Jvm.MethodName)) ∈ lw_all := lw_g (lw_at lw_m6 32 rfl) rfl
theorem q1394 : (Jvm.Cond.privateMethod ({ cls := "StreamQueries$Node", name := "group", desc := "(Z)V" } : Jvm.MethodName)) ∈ lw_tbl := lw_at lw_m6 33 rfl
theorem q1395 : (Jvm.Cond.instanceMethod ({ cls := "StreamQueries$Node", name := "group", desc := "(Z)V" } : Jvm.MethodName)) ∈ lw_all := lw_g (lw_at lw_m6 34 rfl) rfl
theorem q1396 : (Jvm.Cond.code ({ cls := "StreamQueries$Node", name := "group", desc := "(Z)V" } : Jvm.MethodName) prog_4_method_24_code (3 : Nat) (Option.none : Option Jvm.ClassFile.FieldType)) ∈ lw_all := lw_g (lw_at lw_m6 35 rfl) rfl
theorem q1397 : (Jvm.Cond.methodLink "StreamQueries$Node" (239 : Nat) ({ cls := "StreamQueries$Node", name := "findKeys", desc := "()V" } : Jvm.MethodName)) ∈ lw_all := lw_g (lw_at lw_m6 36 rfl) rfl
theorem q1398 : (Jvm.Cond.privateMethod ({ cls := "StreamQueries$Node", name := "findKeys", desc := "()V" } : Jvm.MethodName)) ∈ lw_tbl := lw_at lw_m6 37 rfl
theorem q1399 : (Jvm.Cond.instanceMethod ({ cls := "StreamQueries$Node", name := "findKeys", desc := "()V" } : Jvm.MethodName)) ∈ lw_all := lw_g (lw_at lw_m6 38 rfl) rfl
theorem q1400 : (Jvm.Cond.code ({ cls := "StreamQueries$Node", name := "findKeys", desc := "()V" } : Jvm.MethodName) prog_4_method_23_code (3 : Nat) (Option.none : Option Jvm.ClassFile.FieldType)) ∈ lw_all := lw_g (lw_at lw_m6 39 rfl) rfl
theorem q1401 : (Jvm.Cond.methodLink "StreamQueries$Node" (224 : Nat) ({ cls := "StreamQueries$Pool", name := "keys", desc := "(I)[LStreamQueries$Row;" } : Jvm.MethodName)) ∈ lw_all := lw_g (lw_at lw_m6 40 rfl) rfl
theorem q1406 : (Jvm.Cond.methodLink "StreamQueries$Node" (233 : Nat) ({ cls := "StreamQueries$Pool", name := "matches", desc := "()[I" } : Jvm.MethodName)) ∈ lw_all := lw_g (lw_at lw_m6 45 rfl) rfl
theorem q1410 : (Jvm.Cond.methodLink "StreamQueries$Node" (160 : Nat) ({ cls := "StreamQueries$Bag", name := "timesOf", desc := "(LStreamQueries$Row;)I" } : Jvm.MethodName)) ∈ lw_all := lw_g (lw_at lw_m6 49 rfl) rfl
theorem q1414 : (Jvm.Cond.methodLink "StreamQueries$Node" (242 : Nat) ({ cls := "StreamQueries$Node", name := "one", desc := "(LStreamQueries$Row;)V" } : Jvm.MethodName)) ∈ lw_all := lw_g (lw_at lw_m6 53 rfl) rfl
theorem q1415 : (Jvm.Cond.privateMethod ({ cls := "StreamQueries$Node", name := "one", desc := "(LStreamQueries$Row;)V" } : Jvm.MethodName)) ∈ lw_tbl := lw_at lw_m6 54 rfl
theorem q1416 : (Jvm.Cond.instanceMethod ({ cls := "StreamQueries$Node", name := "one", desc := "(LStreamQueries$Row;)V" } : Jvm.MethodName)) ∈ lw_all := lw_g (lw_at lw_m6 55 rfl) rfl
theorem q1417 : (Jvm.Cond.code ({ cls := "StreamQueries$Node", name := "one", desc := "(LStreamQueries$Row;)V" } : Jvm.MethodName) prog_4_method_26_code (3 : Nat) (Option.none : Option Jvm.ClassFile.FieldType)) ∈ lw_all := lw_g (lw_at lw_m6 56 rfl) rfl
theorem q1418 : (Jvm.Cond.methodLink "StreamQueries$Node" (249 : Nat) ({ cls := "StreamQueries$Node", name := "isOf", desc := "(LStreamQueries$Row;LStreamQueries$Row;)Z" } : Jvm.MethodName)) ∈ lw_all := lw_g (lw_at lw_m6 57 rfl) rfl
theorem q1419 : (Jvm.Cond.privateMethod ({ cls := "StreamQueries$Node", name := "isOf", desc := "(LStreamQueries$Row;LStreamQueries$Row;)Z" } : Jvm.MethodName)) ∈ lw_tbl := lw_at lw_m6 58 rfl
theorem q1420 : (Jvm.Cond.instanceMethod ({ cls := "StreamQueries$Node", name := "isOf", desc := "(LStreamQueries$Row;LStreamQueries$Row;)Z" } : Jvm.MethodName)) ∈ lw_all := lw_g (lw_at lw_m6 59 rfl) rfl
theorem q1421 : (Jvm.Cond.code ({ cls := "StreamQueries$Node", name := "isOf", desc := "(LStreamQueries$Row;LStreamQueries$Row;)Z" } : Jvm.MethodName) prog_4_method_25_code (4 : Nat) (Option.some Jvm.ClassFile.FieldType.boolean)) ∈ lw_all := lw_g (lw_at lw_m6 60 rfl) rfl
theorem q1422 : (Jvm.Cond.methodLink "StreamQueries$Node" (155 : Nat) ({ cls := "StreamQueries$Row", name := "size", desc := "()I" } : Jvm.MethodName)) ∈ lw_all := lw_g (lw_at lw_m6 61 rfl) rfl
theorem q1426 : (Jvm.Cond.methodLink "StreamQueries$Node" (245 : Nat) ({ cls := "StreamQueries$Row", name := "compare", desc := "(LStreamQueries$Row;ILStreamQueries$Row;I)I" } : Jvm.MethodName)) ∈ lw_all := lw_g (lw_at lw_m6 65 rfl) rfl
theorem q1427 : (Jvm.Cond.methodLink "StreamQueries$Node" (255 : Nat) ({ cls := "StreamQueries$Node", name := "aggregate", desc := "(I)V" } : Jvm.MethodName)) ∈ lw_all := lw_g (lw_at lw_m6 66 rfl) rfl
theorem q1428 : (Jvm.Cond.privateMethod ({ cls := "StreamQueries$Node", name := "aggregate", desc := "(I)V" } : Jvm.MethodName)) ∈ lw_tbl := lw_at lw_m6 67 rfl
theorem q1429 : (Jvm.Cond.instanceMethod ({ cls := "StreamQueries$Node", name := "aggregate", desc := "(I)V" } : Jvm.MethodName)) ∈ lw_all := lw_g (lw_at lw_m6 68 rfl) rfl
theorem q1430 : (Jvm.Cond.code ({ cls := "StreamQueries$Node", name := "aggregate", desc := "(I)V" } : Jvm.MethodName) prog_4_method_27_code (11 : Nat) (Option.none : Option Jvm.ClassFile.FieldType)) ∈ lw_all := lw_g (lw_at lw_m6 69 rfl) rfl
theorem q1431 : (Jvm.Cond.methodLink "StreamQueries$Node" (264 : Nat) ({ cls := "java/lang/Math", name := "min", desc := "(JJ)J" } : Jvm.MethodName)) ∈ lw_all := lw_g (lw_at lw_m6 70 rfl) rfl
theorem q1434 : (Jvm.Cond.methodLink "StreamQueries$Node" (270 : Nat) ({ cls := "java/lang/Math", name := "max", desc := "(JJ)J" } : Jvm.MethodName)) ∈ lw_all := lw_g (lw_at lw_m6 73 rfl) rfl
theorem q1437 : (Jvm.Cond.methodLink "StreamQueries$Node" (182 : Nat) ({ cls := "StreamQueries$Node", name := "once", desc := "(LStreamQueries$Bag;)V" } : Jvm.MethodName)) ∈ lw_all := lw_g (lw_at lw_m6 76 rfl) rfl
theorem q1438 : (Jvm.Cond.privateMethod ({ cls := "StreamQueries$Node", name := "once", desc := "(LStreamQueries$Bag;)V" } : Jvm.MethodName)) ∈ lw_tbl := lw_at lw_m6 77 rfl
theorem q1439 : (Jvm.Cond.instanceMethod ({ cls := "StreamQueries$Node", name := "once", desc := "(LStreamQueries$Bag;)V" } : Jvm.MethodName)) ∈ lw_all := lw_g (lw_at lw_m6 78 rfl) rfl
theorem q1440 : (Jvm.Cond.code ({ cls := "StreamQueries$Node", name := "once", desc := "(LStreamQueries$Bag;)V" } : Jvm.MethodName) prog_4_method_28_code (8 : Nat) (Option.none : Option Jvm.ClassFile.FieldType)) ∈ lw_all := lw_g (lw_at lw_m6 79 rfl) rfl
theorem q1441 : (Jvm.Cond.methodLink "StreamQueries$Node" (185 : Nat) ({ cls := "StreamQueries$Node", name := "top", desc := "()V" } : Jvm.MethodName)) ∈ lw_all := lw_g (lw_at lw_m6 80 rfl) rfl
theorem q1442 : (Jvm.Cond.privateMethod ({ cls := "StreamQueries$Node", name := "top", desc := "()V" } : Jvm.MethodName)) ∈ lw_tbl := lw_at lw_m6 81 rfl
theorem q1443 : (Jvm.Cond.instanceMethod ({ cls := "StreamQueries$Node", name := "top", desc := "()V" } : Jvm.MethodName)) ∈ lw_all := lw_g (lw_at lw_m6 82 rfl) rfl
theorem q1444 : (Jvm.Cond.code ({ cls := "StreamQueries$Node", name := "top", desc := "()V" } : Jvm.MethodName) prog_4_method_31_code (5 : Nat) (Option.none : Option Jvm.ClassFile.FieldType)) ∈ lw_all := lw_g (lw_at lw_m6 83 rfl) rfl
theorem q1445 : (Jvm.Cond.methodLink "StreamQueries$Node" (283 : Nat) ({ cls := "StreamQueries$Node", name := "sorted", desc := "(LStreamQueries$Bag;)I" } : Jvm.MethodName)) ∈ lw_all := lw_g (lw_at lw_m6 84 rfl) rfl
theorem q1446 : (Jvm.Cond.privateMethod ({ cls := "StreamQueries$Node", name := "sorted", desc := "(LStreamQueries$Bag;)I" } : Jvm.MethodName)) ∈ lw_tbl := lw_at lw_m6 85 rfl
theorem q1447 : (Jvm.Cond.instanceMethod ({ cls := "StreamQueries$Node", name := "sorted", desc := "(LStreamQueries$Bag;)I" } : Jvm.MethodName)) ∈ lw_all := lw_g (lw_at lw_m6 86 rfl) rfl
theorem q1448 : (Jvm.Cond.code ({ cls := "StreamQueries$Node", name := "sorted", desc := "(LStreamQueries$Bag;)I" } : Jvm.MethodName) prog_4_method_30_code (4 : Nat) (Option.some Jvm.ClassFile.FieldType.int)) ∈ lw_all := lw_g (lw_at lw_m6 87 rfl) rfl
theorem q1449 : (Jvm.Cond.methodLink "StreamQueries$Node" (279 : Nat) ({ cls := "StreamQueries$Node", name := "against", desc := "(LStreamQueries$Row;LStreamQueries$Row;)I" } : Jvm.MethodName)) ∈ lw_all := lw_g (lw_at lw_m6 88 rfl) rfl
theorem q1450 : (Jvm.Cond.privateMethod ({ cls := "StreamQueries$Node", name := "against", desc := "(LStreamQueries$Row;LStreamQueries$Row;)I" } : Jvm.MethodName)) ∈ lw_tbl := lw_at lw_m6 89 rfl
theorem q1451 : (Jvm.Cond.instanceMethod ({ cls := "StreamQueries$Node", name := "against", desc := "(LStreamQueries$Row;LStreamQueries$Row;)I" } : Jvm.MethodName)) ∈ lw_all := lw_g (lw_at lw_m6 90 rfl) rfl
theorem q1452 : (Jvm.Cond.code ({ cls := "StreamQueries$Node", name := "against", desc := "(LStreamQueries$Row;LStreamQueries$Row;)I" } : Jvm.MethodName) prog_4_method_29_code (11 : Nat) (Option.some Jvm.ClassFile.FieldType.int)) ∈ lw_all := lw_g (lw_at lw_m6 91 rfl) rfl
theorem q1453 : (Jvm.Cond.methodLink "StreamQueries$Node" (273 : Nat) ({ cls := "java/lang/Long", name := "compare", desc := "(JJ)I" } : Jvm.MethodName)) ∈ lw_all := lw_g (lw_at lw_m6 92 rfl) rfl
theorem q1454 : (Jvm.Cond.methodLink "StreamQueries$Node" (276 : Nat) ({ cls := "StreamQueries$Row", name := "compareTo", desc := "(LStreamQueries$Row;)I" } : Jvm.MethodName)) ∈ lw_all := lw_g (lw_at lw_m6 93 rfl) rfl
theorem q1455 : (Jvm.Cond.methodLink "StreamQueries$Node" (287 : Nat) ({ cls := "java/lang/Math", name := "min", desc := "(II)I" } : Jvm.MethodName)) ∈ lw_all := lw_g (lw_at lw_m6 94 rfl) rfl
theorem q1462 : (Jvm.Cond.instanceMethod ({ cls := "StreamQueries$Node", name := "feed", desc := "(ILStreamQueries$Bag;ZJ)V" } : Jvm.MethodName)) ∈ lw_all := lw_g (lw_at lw_m6 101 rfl) rfl
theorem q1463 : (Jvm.Cond.selects "StreamQueries$Node" ({ cls := "StreamQueries$Node", name := "feed", desc := "(ILStreamQueries$Bag;ZJ)V" } : Jvm.MethodName) ({ cls := "StreamQueries$Node", name := "feed", desc := "(ILStreamQueries$Bag;ZJ)V" } : Jvm.MethodName)) ∈ lw_all := lw_g (lw_at lw_m6 102 rfl) rfl
theorem q1464 : (Jvm.Cond.code ({ cls := "StreamQueries$Node", name := "feed", desc := "(ILStreamQueries$Bag;ZJ)V" } : Jvm.MethodName) prog_4_method_13_code (6 : Nat) (Option.none : Option Jvm.ClassFile.FieldType)) ∈ lw_all := lw_g (lw_at lw_m6 103 rfl) rfl
theorem q1465 : (Jvm.Cond.methodLink "StreamQueries$Node" (130 : Nat) ({ cls := "StreamQueries$Node", name := "old", desc := "()V" } : Jvm.MethodName)) ∈ lw_all := lw_g (lw_at lw_m6 104 rfl) rfl
theorem q1466 : (Jvm.Cond.privateMethod ({ cls := "StreamQueries$Node", name := "old", desc := "()V" } : Jvm.MethodName)) ∈ lw_tbl := lw_at lw_m6 105 rfl
theorem q1467 : (Jvm.Cond.instanceMethod ({ cls := "StreamQueries$Node", name := "old", desc := "()V" } : Jvm.MethodName)) ∈ lw_all := lw_g (lw_at lw_m6 106 rfl) rfl
theorem q1468 : (Jvm.Cond.code ({ cls := "StreamQueries$Node", name := "old", desc := "()V" } : Jvm.MethodName) prog_4_method_15_code (3 : Nat) (Option.none : Option Jvm.ClassFile.FieldType)) ∈ lw_all := lw_g (lw_at lw_m6 107 rfl) rfl
theorem q1469 : (Jvm.Cond.methodLink "StreamQueries$Node" (156 : Nat) ({ cls := "StreamQueries$Row", name := "value", desc := "(I)J" } : Jvm.MethodName)) ∈ lw_all := lw_g (lw_at lw_m6 108 rfl) rfl
theorem q1470 : (Jvm.Cond.methodLink "StreamQueries$Node" (133 : Nat) ({ cls := "StreamQueries$Node", name := "come", desc := "(LStreamQueries$Bag;)V" } : Jvm.MethodName)) ∈ lw_all := lw_g (lw_at lw_m6 109 rfl) rfl
theorem q1471 : (Jvm.Cond.privateMethod ({ cls := "StreamQueries$Node", name := "come", desc := "(LStreamQueries$Bag;)V" } : Jvm.MethodName)) ∈ lw_tbl := lw_at lw_m6 110 rfl
theorem q1472 : (Jvm.Cond.instanceMethod ({ cls := "StreamQueries$Node", name := "come", desc := "(LStreamQueries$Bag;)V" } : Jvm.MethodName)) ∈ lw_all := lw_g (lw_at lw_m6 111 rfl) rfl
theorem q1473 : (Jvm.Cond.code ({ cls := "StreamQueries$Node", name := "come", desc := "(LStreamQueries$Bag;)V" } : Jvm.MethodName) prog_4_method_14_code (5 : Nat) (Option.none : Option Jvm.ClassFile.FieldType)) ∈ lw_all := lw_g (lw_at lw_m6 112 rfl) rfl
theorem q1474 : (Jvm.Cond.methodLink "StreamQueries$Node" (140 : Nat) ({ cls := "StreamQueries$Node", name := "feed", desc := "(ILStreamQueries$Bag;ZJ)V" } : Jvm.MethodName)) ∈ lw_all := lw_g (lw_at lw_m6 113 rfl) rfl
theorem q1476 : (Jvm.Cond.instanceMethod ({ cls := "StreamQueries$Node", name := "delta", desc := "()LStreamQueries$Bag;" } : Jvm.MethodName)) ∈ lw_all := lw_g (lw_at lw_m6 115 rfl) rfl
theorem q1477 : (Jvm.Cond.selects "StreamQueries$Node" ({ cls := "StreamQueries$Node", name := "delta", desc := "()LStreamQueries$Bag;" } : Jvm.MethodName) ({ cls := "StreamQueries$Node", name := "delta", desc := "()LStreamQueries$Bag;" } : Jvm.MethodName)) ∈ lw_all := lw_g (lw_at lw_m6 116 rfl) rfl
theorem q1478 : (Jvm.Cond.code ({ cls := "StreamQueries$Node", name := "delta", desc := "()LStreamQueries$Bag;" } : Jvm.MethodName) prog_4_method_5_code (1 : Nat) (Option.some (Jvm.ClassFile.FieldType.object "StreamQueries$Bag"))) ∈ lw_all := lw_g (lw_at lw_m6 117 rfl) rfl
theorem q1562 : (Jvm.Cond.instanceMethod ({ cls := "StreamQueries$Node", name := "out", desc := "()LStreamQueries$Bag;" } : Jvm.MethodName)) ∈ lw_all := lw_g (lw_at lw_m6 201 rfl) rfl
theorem q1563 : (Jvm.Cond.selects "StreamQueries$Node" ({ cls := "StreamQueries$Node", name := "out", desc := "()LStreamQueries$Bag;" } : Jvm.MethodName) ({ cls := "StreamQueries$Node", name := "out", desc := "()LStreamQueries$Bag;" } : Jvm.MethodName)) ∈ lw_all := lw_g (lw_at lw_m6 202 rfl) rfl
theorem q1564 : (Jvm.Cond.code ({ cls := "StreamQueries$Node", name := "out", desc := "()LStreamQueries$Bag;" } : Jvm.MethodName) prog_4_method_4_code (1 : Nat) (Option.some (Jvm.ClassFile.FieldType.object "StreamQueries$Bag"))) ∈ lw_all := lw_g (lw_at lw_m6 203 rfl) rfl
theorem q1582 : (Jvm.Cond.instanceMethod ({ cls := "StreamQueries$Node", name := "answer", desc := "(I)LStreamQueries$Row;" } : Jvm.MethodName)) ∈ lw_all := lw_g (lw_at lw_m6 221 rfl) rfl
theorem q1583 : (Jvm.Cond.selects "StreamQueries$Node" ({ cls := "StreamQueries$Node", name := "answer", desc := "(I)LStreamQueries$Row;" } : Jvm.MethodName) ({ cls := "StreamQueries$Node", name := "answer", desc := "(I)LStreamQueries$Row;" } : Jvm.MethodName)) ∈ lw_all := lw_g (lw_at lw_m6 222 rfl) rfl
theorem q1584 : (Jvm.Cond.code ({ cls := "StreamQueries$Node", name := "answer", desc := "(I)LStreamQueries$Row;" } : Jvm.MethodName) prog_4_method_32_code (6 : Nat) (Option.some (Jvm.ClassFile.FieldType.object "StreamQueries$Row"))) ∈ lw_all := lw_g (lw_at lw_m6 223 rfl) rfl
theorem q1610 : (Jvm.Cond.instanceMethod ({ cls := "StreamQueries$Node", name := "held", desc := "()I" } : Jvm.MethodName)) ∈ lw_all := lw_g (lw_at lw_m7 9 rfl) rfl
theorem q1611 : (Jvm.Cond.selects "StreamQueries$Node" ({ cls := "StreamQueries$Node", name := "held", desc := "()I" } : Jvm.MethodName) ({ cls := "StreamQueries$Node", name := "held", desc := "()I" } : Jvm.MethodName)) ∈ lw_all := lw_g (lw_at lw_m7 10 rfl) rfl
theorem q1612 : (Jvm.Cond.code ({ cls := "StreamQueries$Node", name := "held", desc := "()I" } : Jvm.MethodName) prog_4_method_33_code (1 : Nat) (Option.some Jvm.ClassFile.FieldType.int)) ∈ lw_all := lw_g (lw_at lw_m7 11 rfl) rfl
theorem q1613 : (Jvm.Cond.methodLink "StreamQueries$Node" (290 : Nat) ({ cls := "StreamQueries$Bag", name := "total", desc := "()I" } : Jvm.MethodName)) ∈ lw_all := lw_g (lw_at lw_m7 12 rfl) rfl
theorem q1614 : (Jvm.Cond.methodLink "StreamQueries$Node" (293 : Nat) ({ cls := "StreamQueries$Node", name := "held", desc := "()I" } : Jvm.MethodName)) ∈ lw_all := lw_g (lw_at lw_m7 13 rfl) rfl
theorem in_X10 : ∀ w ∈ wsX100, w ∈ lw_all := lw_in wsX100 [1108, 1110, 1112, 1114, 1116, 1118, 1120, 1122, 1124, 1126, 1128, 1130, 1132, 1134, 1136, 1138, 1140, 1142, 1144, 1146, 1148, 1150, 1152, 1154, 1156, 1158, 1160] (by decide +kernel) (by decide +kernel)
def RJ0 : String := "java/lang/String"
abbrev cJ0_indexOf : ByteArray := prog_16_method_79_code
def yJ0_indexOf : MethodName := ⟨RJ0, "indexOf", "(I)I"⟩
abbrev cJ0_indexOf_2 : ByteArray := prog_16_method_80_code
def yJ0_indexOf_2 : MethodName := ⟨RJ0, "indexOf", "(II)I"⟩
abbrev cJ0_isLatin1 : ByteArray := prog_16_method_154_code
def yJ0_isLatin1 : MethodName := ⟨RJ0, "isLatin1", "()Z"⟩
abbrev cJ0_length : ByteArray := prog_16_method_54_code
def yJ0_length : MethodName := ⟨RJ0, "length", "()I"⟩
abbrev cJ0_coder : ByteArray := prog_16_method_152_code
def yJ0_coder : MethodName := ⟨RJ0, "coder", "()B"⟩
abbrev cJ0_checkBoundsBeginEnd : ByteArray := prog_16_method_158_code
def yJ0_checkBoundsBeginEnd : MethodName := ⟨RJ0, "checkBoundsBeginEnd", "(III)V"⟩
abbrev cJ0_charAt : ByteArray := prog_16_method_56_code
def yJ0_charAt : MethodName := ⟨RJ0, "charAt", "(I)C"⟩
abbrev cJ0_checkIndex : ByteArray := prog_16_method_155_code
def yJ0_checkIndex : MethodName := ⟨RJ0, "checkIndex", "(II)V"⟩
theorem q171 : (Jvm.Cond.initialized "java/lang/String") ∈ lw_all := lw_g (lw_at lw_m1 10 rfl) rfl
theorem q530 : (Jvm.Cond.instanceMethod ({ cls := "java/lang/String", name := "indexOf", desc := "(I)I" } : Jvm.MethodName)) ∈ lw_all := lw_g (lw_at lw_m2 129 rfl) rfl
theorem q531 : (Jvm.Cond.selects "java/lang/String" ({ cls := "java/lang/String", name := "indexOf", desc := "(I)I" } : Jvm.MethodName) ({ cls := "java/lang/String", name := "indexOf", desc := "(I)I" } : Jvm.MethodName)) ∈ lw_all := lw_g (lw_at lw_m2 130 rfl) rfl
theorem q532 : (Jvm.Cond.code ({ cls := "java/lang/String", name := "indexOf", desc := "(I)I" } : Jvm.MethodName) prog_16_method_79_code (2 : Nat) (Option.some Jvm.ClassFile.FieldType.int)) ∈ lw_all := lw_g (lw_at lw_m2 131 rfl) rfl
theorem q533 : (Jvm.Cond.methodLink "java/lang/String" (633 : Nat) ({ cls := "java/lang/String", name := "indexOf", desc := "(II)I" } : Jvm.MethodName)) ∈ lw_all := lw_g (lw_at lw_m2 132 rfl) rfl
theorem q534 : (Jvm.Cond.instanceMethod ({ cls := "java/lang/String", name := "indexOf", desc := "(II)I" } : Jvm.MethodName)) ∈ lw_all := lw_g (lw_at lw_m2 133 rfl) rfl
theorem q535 : (Jvm.Cond.selects "java/lang/String" ({ cls := "java/lang/String", name := "indexOf", desc := "(II)I" } : Jvm.MethodName) ({ cls := "java/lang/String", name := "indexOf", desc := "(II)I" } : Jvm.MethodName)) ∈ lw_all := lw_g (lw_at lw_m2 134 rfl) rfl
theorem q536 : (Jvm.Cond.code ({ cls := "java/lang/String", name := "indexOf", desc := "(II)I" } : Jvm.MethodName) prog_16_method_80_code (3 : Nat) (Option.some Jvm.ClassFile.FieldType.int)) ∈ lw_all := lw_g (lw_at lw_m2 135 rfl) rfl
theorem q537 : (Jvm.Cond.methodLink "java/lang/String" (492 : Nat) ({ cls := "java/lang/String", name := "isLatin1", desc := "()Z" } : Jvm.MethodName)) ∈ lw_all := lw_g (lw_at lw_m2 136 rfl) rfl
theorem q538 : (Jvm.Cond.instanceMethod ({ cls := "java/lang/String", name := "isLatin1", desc := "()Z" } : Jvm.MethodName)) ∈ lw_all := lw_g (lw_at lw_m2 137 rfl) rfl
theorem q539 : (Jvm.Cond.selects "java/lang/String" ({ cls := "java/lang/String", name := "isLatin1", desc := "()Z" } : Jvm.MethodName) ({ cls := "java/lang/String", name := "isLatin1", desc := "()Z" } : Jvm.MethodName)) ∈ lw_all := lw_g (lw_at lw_m2 138 rfl) rfl
theorem q540 : (Jvm.Cond.code ({ cls := "java/lang/String", name := "isLatin1", desc := "()Z" } : Jvm.MethodName) prog_16_method_154_code (1 : Nat) (Option.some Jvm.ClassFile.FieldType.boolean)) ∈ lw_all := lw_g (lw_at lw_m2 139 rfl) rfl
theorem q541 : (Jvm.Cond.fieldLink "java/lang/String" (38 : Nat) "java/lang/String" "COMPACT_STRINGS" "Z") ∈ lw_all := lw_g (lw_at lw_m2 140 rfl) rfl
theorem q542 : (Jvm.Cond.laysStatic "java/lang/String" "COMPACT_STRINGS" "Z") ∈ lw_tbl := lw_at lw_m2 141 rfl
theorem q543 : (Jvm.Cond.methodLink "java/lang/String" (505 : Nat) ({ cls := "java/lang/String", name := "length", desc := "()I" } : Jvm.MethodName)) ∈ lw_all := lw_g (lw_at lw_m2 142 rfl) rfl
theorem q544 : (Jvm.Cond.instanceMethod ({ cls := "java/lang/String", name := "length", desc := "()I" } : Jvm.MethodName)) ∈ lw_all := lw_g (lw_at lw_m2 143 rfl) rfl
theorem q545 : (Jvm.Cond.selects "java/lang/String" ({ cls := "java/lang/String", name := "length", desc := "()I" } : Jvm.MethodName) ({ cls := "java/lang/String", name := "length", desc := "()I" } : Jvm.MethodName)) ∈ lw_all := lw_g (lw_at lw_m2 144 rfl) rfl
theorem q546 : (Jvm.Cond.code ({ cls := "java/lang/String", name := "length", desc := "()I" } : Jvm.MethodName) prog_16_method_54_code (1 : Nat) (Option.some Jvm.ClassFile.FieldType.int)) ∈ lw_all := lw_g (lw_at lw_m2 145 rfl) rfl
theorem q547 : (Jvm.Cond.methodLink "java/lang/String" (335 : Nat) ({ cls := "java/lang/String", name := "coder", desc := "()B" } : Jvm.MethodName)) ∈ lw_all := lw_g (lw_at lw_m2 146 rfl) rfl
theorem q548 : (Jvm.Cond.instanceMethod ({ cls := "java/lang/String", name := "coder", desc := "()B" } : Jvm.MethodName)) ∈ lw_all := lw_g (lw_at lw_m2 147 rfl) rfl
theorem q549 : (Jvm.Cond.selects "java/lang/String" ({ cls := "java/lang/String", name := "coder", desc := "()B" } : Jvm.MethodName) ({ cls := "java/lang/String", name := "coder", desc := "()B" } : Jvm.MethodName)) ∈ lw_all := lw_g (lw_at lw_m2 148 rfl) rfl
theorem q550 : (Jvm.Cond.code ({ cls := "java/lang/String", name := "coder", desc := "()B" } : Jvm.MethodName) prog_16_method_152_code (1 : Nat) (Option.some Jvm.ClassFile.FieldType.byte)) ∈ lw_all := lw_g (lw_at lw_m2 149 rfl) rfl
theorem q551 : (Jvm.Cond.methodLink "java/lang/String" (637 : Nat) ({ cls := "java/lang/StringLatin1", name := "indexOf", desc := "([BIII)I" } : Jvm.MethodName)) ∈ lw_all := lw_g (lw_at lw_m2 150 rfl) rfl
theorem q566 : (Jvm.Cond.methodLink "java/lang/String" (640 : Nat) ({ cls := "java/lang/StringUTF16", name := "indexOf", desc := "([BIII)I" } : Jvm.MethodName)) ∈ lw_all := lw_g (lw_at lw_m2 165 rfl) rfl
theorem q582 : (Jvm.Cond.static ({ cls := "java/lang/String", name := "checkBoundsBeginEnd", desc := "(III)V" } : Jvm.MethodName)) ∈ lw_all := lw_g (lw_at lw_m2 181 rfl) rfl
theorem q583 : (Jvm.Cond.code ({ cls := "java/lang/String", name := "checkBoundsBeginEnd", desc := "(III)V" } : Jvm.MethodName) prog_16_method_158_code (3 : Nat) (Option.none : Option Jvm.ClassFile.FieldType)) ∈ lw_all := lw_g (lw_at lw_m2 182 rfl) rfl
theorem q584 : (Jvm.Cond.fieldLink "java/lang/String" (1053 : Nat) "jdk/internal/util/Preconditions" "SIOOBE_FORMATTER" "Ljava/util/function/BiFunction;") ∈ lw_all := lw_g (lw_at lw_m2 183 rfl) rfl
theorem q586 : (Jvm.Cond.methodLink "java/lang/String" (1062 : Nat) ({ cls := "jdk/internal/util/Preconditions", name := "checkFromToIndex", desc := "(IIILjava/util/function/BiFunction;)I" } : Jvm.MethodName)) ∈ lw_all := lw_g (lw_at lw_m2 185 rfl) rfl
theorem q622 : (Jvm.Cond.instanceMethod ({ cls := "java/lang/String", name := "charAt", desc := "(I)C" } : Jvm.MethodName)) ∈ lw_all := lw_g (lw_at lw_m2 221 rfl) rfl
theorem q623 : (Jvm.Cond.selects "java/lang/String" ({ cls := "java/lang/String", name := "charAt", desc := "(I)C" } : Jvm.MethodName) ({ cls := "java/lang/String", name := "charAt", desc := "(I)C" } : Jvm.MethodName)) ∈ lw_all := lw_g (lw_at lw_m2 222 rfl) rfl
theorem q624 : (Jvm.Cond.code ({ cls := "java/lang/String", name := "charAt", desc := "(I)C" } : Jvm.MethodName) prog_16_method_56_code (2 : Nat) (Option.some Jvm.ClassFile.FieldType.char)) ∈ lw_all := lw_g (lw_at lw_m2 223 rfl) rfl
theorem q625 : (Jvm.Cond.methodLink "java/lang/String" (495 : Nat) ({ cls := "java/lang/StringLatin1", name := "charAt", desc := "([BI)C" } : Jvm.MethodName)) ∈ lw_all := lw_g (lw_at lw_m2 224 rfl) rfl
theorem q629 : (Jvm.Cond.static ({ cls := "java/lang/String", name := "checkIndex", desc := "(II)V" } : Jvm.MethodName)) ∈ lw_all := lw_g (lw_at lw_m2 228 rfl) rfl
theorem q630 : (Jvm.Cond.code ({ cls := "java/lang/String", name := "checkIndex", desc := "(II)V" } : Jvm.MethodName) prog_16_method_155_code (2 : Nat) (Option.none : Option Jvm.ClassFile.FieldType)) ∈ lw_all := lw_g (lw_at lw_m2 229 rfl) rfl
theorem q631 : (Jvm.Cond.methodLink "java/lang/String" (1059 : Nat) ({ cls := "jdk/internal/util/Preconditions", name := "checkIndex", desc := "(IILjava/util/function/BiFunction;)I" } : Jvm.MethodName)) ∈ lw_all := lw_g (lw_at lw_m2 230 rfl) rfl
theorem q634 : (Jvm.Cond.methodLink "java/lang/String" (498 : Nat) ({ cls := "java/lang/StringUTF16", name := "charAt", desc := "([BI)C" } : Jvm.MethodName)) ∈ lw_all := lw_g (lw_at lw_m2 233 rfl) rfl
theorem q2452 : (Jvm.Cond.fieldLink "java/lang/String" (15 : Nat) "java/lang/String" "coder" "B") ∈ lw_all := lw_g (lw_at lw_m10 131 rfl) rfl
theorem q2453 : (Jvm.Cond.fieldLink "java/lang/String" (9 : Nat) "java/lang/String" "value" "[B") ∈ lw_all := lw_g (lw_at lw_m10 132 rfl) rfl
def RJ1 : String := "java/lang/StringLatin1"
abbrev cJ1_indexOf : ByteArray := prog_17_method_22_code
def yJ1_indexOf : MethodName := ⟨RJ1, "indexOf", "([BIII)I"⟩
abbrev cJ1_canEncode : ByteArray := prog_17_method_4_code
def yJ1_canEncode : MethodName := ⟨RJ1, "canEncode", "(I)Z"⟩
abbrev cJ1_indexOfChar : ByteArray := prog_17_method_23_code
def yJ1_indexOfChar : MethodName := ⟨RJ1, "indexOfChar", "([BIII)I"⟩
abbrev cJ1_charAt : ByteArray := prog_17_method_2_code
def yJ1_charAt : MethodName := ⟨RJ1, "charAt", "([BI)C"⟩
theorem q172 : (Jvm.Cond.initialized "java/lang/StringLatin1") ∈ lw_all := lw_g (lw_at lw_m1 11 rfl) rfl
theorem q552 : (Jvm.Cond.static ({ cls := "java/lang/StringLatin1", name := "indexOf", desc := "([BIII)I" } : Jvm.MethodName)) ∈ lw_all := lw_g (lw_at lw_m2 151 rfl) rfl
theorem q553 : (Jvm.Cond.code ({ cls := "java/lang/StringLatin1", name := "indexOf", desc := "([BIII)I" } : Jvm.MethodName) prog_17_method_22_code (4 : Nat) (Option.some Jvm.ClassFile.FieldType.int)) ∈ lw_all := lw_g (lw_at lw_m2 152 rfl) rfl
theorem q554 : (Jvm.Cond.methodLink "java/lang/StringLatin1" (88 : Nat) ({ cls := "java/lang/StringLatin1", name := "canEncode", desc := "(I)Z" } : Jvm.MethodName)) ∈ lw_all := lw_g (lw_at lw_m2 153 rfl) rfl
theorem q555 : (Jvm.Cond.static ({ cls := "java/lang/StringLatin1", name := "canEncode", desc := "(I)Z" } : Jvm.MethodName)) ∈ lw_all := lw_g (lw_at lw_m2 154 rfl) rfl
theorem q556 : (Jvm.Cond.code ({ cls := "java/lang/StringLatin1", name := "canEncode", desc := "(I)Z" } : Jvm.MethodName) prog_17_method_4_code (1 : Nat) (Option.some Jvm.ClassFile.FieldType.boolean)) ∈ lw_all := lw_g (lw_at lw_m2 155 rfl) rfl
theorem q557 : (Jvm.Cond.methodLink "java/lang/StringLatin1" (92 : Nat) ({ cls := "java/lang/Math", name := "max", desc := "(II)I" } : Jvm.MethodName)) ∈ lw_all := lw_g (lw_at lw_m2 156 rfl) rfl
theorem q560 : (Jvm.Cond.methodLink "java/lang/StringLatin1" (38 : Nat) ({ cls := "java/lang/Math", name := "min", desc := "(II)I" } : Jvm.MethodName)) ∈ lw_all := lw_g (lw_at lw_m2 159 rfl) rfl
theorem q563 : (Jvm.Cond.methodLink "java/lang/StringLatin1" (95 : Nat) ({ cls := "java/lang/StringLatin1", name := "indexOfChar", desc := "([BIII)I" } : Jvm.MethodName)) ∈ lw_all := lw_g (lw_at lw_m2 162 rfl) rfl
theorem q564 : (Jvm.Cond.static ({ cls := "java/lang/StringLatin1", name := "indexOfChar", desc := "([BIII)I" } : Jvm.MethodName)) ∈ lw_all := lw_g (lw_at lw_m2 163 rfl) rfl
theorem q565 : (Jvm.Cond.code ({ cls := "java/lang/StringLatin1", name := "indexOfChar", desc := "([BIII)I" } : Jvm.MethodName) prog_17_method_23_code (6 : Nat) (Option.some Jvm.ClassFile.FieldType.int)) ∈ lw_all := lw_g (lw_at lw_m2 164 rfl) rfl
theorem q626 : (Jvm.Cond.static ({ cls := "java/lang/StringLatin1", name := "charAt", desc := "([BI)C" } : Jvm.MethodName)) ∈ lw_all := lw_g (lw_at lw_m2 225 rfl) rfl
theorem q627 : (Jvm.Cond.code ({ cls := "java/lang/StringLatin1", name := "charAt", desc := "([BI)C" } : Jvm.MethodName) prog_17_method_2_code (2 : Nat) (Option.some Jvm.ClassFile.FieldType.char)) ∈ lw_all := lw_g (lw_at lw_m2 226 rfl) rfl
theorem q628 : (Jvm.Cond.methodLink "java/lang/StringLatin1" (9 : Nat) ({ cls := "java/lang/String", name := "checkIndex", desc := "(II)V" } : Jvm.MethodName)) ∈ lw_all := lw_g (lw_at lw_m2 227 rfl) rfl
def RJ2 : String := "java/lang/Math"
abbrev cJ2_max : ByteArray := prog_15_method_65_code
def yJ2_max : MethodName := ⟨RJ2, "max", "(II)I"⟩
abbrev cJ2_min : ByteArray := prog_15_method_69_code
def yJ2_min : MethodName := ⟨RJ2, "min", "(II)I"⟩
abbrev cJ2_floorMod : ByteArray := prog_15_method_52_code
def yJ2_floorMod : MethodName := ⟨RJ2, "floorMod", "(JJ)J"⟩
abbrev cJ2_min_2 : ByteArray := prog_15_method_70_code
def yJ2_min_2 : MethodName := ⟨RJ2, "min", "(JJ)J"⟩
abbrev cJ2_max_2 : ByteArray := prog_15_method_66_code
def yJ2_max_2 : MethodName := ⟨RJ2, "max", "(JJ)J"⟩
theorem q173 : (Jvm.Cond.initialized "java/lang/Math") ∈ lw_all := lw_g (lw_at lw_m1 12 rfl) rfl
theorem q558 : (Jvm.Cond.static ({ cls := "java/lang/Math", name := "max", desc := "(II)I" } : Jvm.MethodName)) ∈ lw_all := lw_g (lw_at lw_m2 157 rfl) rfl
theorem q559 : (Jvm.Cond.code ({ cls := "java/lang/Math", name := "max", desc := "(II)I" } : Jvm.MethodName) prog_15_method_65_code (2 : Nat) (Option.some Jvm.ClassFile.FieldType.int)) ∈ lw_all := lw_g (lw_at lw_m2 158 rfl) rfl
theorem q561 : (Jvm.Cond.static ({ cls := "java/lang/Math", name := "min", desc := "(II)I" } : Jvm.MethodName)) ∈ lw_all := lw_g (lw_at lw_m2 160 rfl) rfl
theorem q562 : (Jvm.Cond.code ({ cls := "java/lang/Math", name := "min", desc := "(II)I" } : Jvm.MethodName) prog_15_method_69_code (2 : Nat) (Option.some Jvm.ClassFile.FieldType.int)) ∈ lw_all := lw_g (lw_at lw_m2 161 rfl) rfl
theorem q1331 : (Jvm.Cond.static ({ cls := "java/lang/Math", name := "floorMod", desc := "(JJ)J" } : Jvm.MethodName)) ∈ lw_all := lw_g (lw_at lw_m5 210 rfl) rfl
theorem q1332 : (Jvm.Cond.code ({ cls := "java/lang/Math", name := "floorMod", desc := "(JJ)J" } : Jvm.MethodName) prog_15_method_52_code (6 : Nat) (Option.some Jvm.ClassFile.FieldType.long)) ∈ lw_all := lw_g (lw_at lw_m5 211 rfl) rfl
theorem q1432 : (Jvm.Cond.static ({ cls := "java/lang/Math", name := "min", desc := "(JJ)J" } : Jvm.MethodName)) ∈ lw_all := lw_g (lw_at lw_m6 71 rfl) rfl
theorem q1433 : (Jvm.Cond.code ({ cls := "java/lang/Math", name := "min", desc := "(JJ)J" } : Jvm.MethodName) prog_15_method_70_code (4 : Nat) (Option.some Jvm.ClassFile.FieldType.long)) ∈ lw_all := lw_g (lw_at lw_m6 72 rfl) rfl
theorem q1435 : (Jvm.Cond.static ({ cls := "java/lang/Math", name := "max", desc := "(JJ)J" } : Jvm.MethodName)) ∈ lw_all := lw_g (lw_at lw_m6 74 rfl) rfl
theorem q1436 : (Jvm.Cond.code ({ cls := "java/lang/Math", name := "max", desc := "(JJ)J" } : Jvm.MethodName) prog_15_method_66_code (4 : Nat) (Option.some Jvm.ClassFile.FieldType.long)) ∈ lw_all := lw_g (lw_at lw_m6 75 rfl) rfl
def RJ4 : String := "jdk/internal/util/Preconditions"
abbrev cJ4_checkFromToIndex : ByteArray := prog_20_method_12_code
def yJ4_checkFromToIndex : MethodName := ⟨RJ4, "checkFromToIndex", "(IIILjava/util/function/BiFunction;)I"⟩
abbrev cJ4_checkIndex : ByteArray := prog_20_method_11_code
def yJ4_checkIndex : MethodName := ⟨RJ4, "checkIndex", "(IILjava/util/function/BiFunction;)I"⟩
theorem q175 : (Jvm.Cond.initialized "jdk/internal/util/Preconditions") ∈ lw_all := lw_g (lw_at lw_m1 14 rfl) rfl
theorem q585 : (Jvm.Cond.laysStatic "jdk/internal/util/Preconditions" "SIOOBE_FORMATTER" "Ljava/util/function/BiFunction;") ∈ lw_tbl := lw_at lw_m2 184 rfl
theorem q587 : (Jvm.Cond.static ({ cls := "jdk/internal/util/Preconditions", name := "checkFromToIndex", desc := "(IIILjava/util/function/BiFunction;)I" } : Jvm.MethodName)) ∈ lw_all := lw_g (lw_at lw_m2 186 rfl) rfl
theorem q588 : (Jvm.Cond.code ({ cls := "jdk/internal/util/Preconditions", name := "checkFromToIndex", desc := "(IIILjava/util/function/BiFunction;)I" } : Jvm.MethodName) prog_20_method_12_code (4 : Nat) (Option.some Jvm.ClassFile.FieldType.int)) ∈ lw_all := lw_g (lw_at lw_m2 187 rfl) rfl
theorem q632 : (Jvm.Cond.static ({ cls := "jdk/internal/util/Preconditions", name := "checkIndex", desc := "(IILjava/util/function/BiFunction;)I" } : Jvm.MethodName)) ∈ lw_all := lw_g (lw_at lw_m2 231 rfl) rfl
theorem q633 : (Jvm.Cond.code ({ cls := "jdk/internal/util/Preconditions", name := "checkIndex", desc := "(IILjava/util/function/BiFunction;)I" } : Jvm.MethodName) prog_20_method_11_code (3 : Nat) (Option.some Jvm.ClassFile.FieldType.int)) ∈ lw_all := lw_g (lw_at lw_m2 232 rfl) rfl
def RJ6 : String := "java/lang/Long"
abbrev cJ6_compare : ByteArray := prog_14_method_42_code
def yJ6_compare : MethodName := ⟨RJ6, "compare", "(JJ)I"⟩
theorem q180 : (Jvm.Cond.initialized "java/lang/Long") ∈ lw_all := lw_g (lw_at lw_m1 19 rfl) rfl
theorem q1357 : (Jvm.Cond.static ({ cls := "java/lang/Long", name := "compare", desc := "(JJ)I" } : Jvm.MethodName)) ∈ lw_all := lw_g (lw_at lw_m5 236 rfl) rfl
theorem q1358 : (Jvm.Cond.code ({ cls := "java/lang/Long", name := "compare", desc := "(JJ)I" } : Jvm.MethodName) prog_14_method_42_code (4 : Nat) (Option.some Jvm.ClassFile.FieldType.int)) ∈ lw_all := lw_g (lw_at lw_m5 237 rfl) rfl
def RJ7 : String := "java/lang/Object"
abbrev cJ7_init : ByteArray := object_method_1_code
def yJ7_init : MethodName := ⟨RJ7, "<init>", "()V"⟩
theorem q187 : (Jvm.Cond.instanceMethod ({ cls := "java/lang/Object", name := "<init>", desc := "()V" } : Jvm.MethodName)) ∈ lw_all := lw_g (lw_at lw_m1 26 rfl) rfl
theorem q188 : (Jvm.Cond.code ({ cls := "java/lang/Object", name := "<init>", desc := "()V" } : Jvm.MethodName) object_method_1_code (1 : Nat) (Option.none : Option Jvm.ClassFile.FieldType)) ∈ lw_all := lw_g (lw_at lw_m1 27 rfl) rfl
theorem q190 : (Jvm.Cond.arrayOver (Jvm.ClassFile.FieldType.object "StreamQueries$Row")) ∈ lw_tbl := lw_at lw_m1 29 rfl
theorem q207 : (Jvm.Cond.arrayClass Jvm.ClassFile.FieldType.byte) ∈ lw_all := lw_g (lw_at lw_m1 46 rfl) rfl
theorem q208 : (Jvm.Cond.arrayClass Jvm.ClassFile.FieldType.int) ∈ lw_all := lw_g (lw_at lw_m1 47 rfl) rfl
theorem q209 : (Jvm.Cond.arrayClass Jvm.ClassFile.FieldType.boolean) ∈ lw_all := lw_g (lw_at lw_m1 48 rfl) rfl
theorem q210 : (Jvm.Cond.arrayClass Jvm.ClassFile.FieldType.long) ∈ lw_all := lw_g (lw_at lw_m1 49 rfl) rfl
theorem q325 : (Jvm.Cond.arrayOver (Jvm.ClassFile.FieldType.object "StreamQueries$Node")) ∈ lw_tbl := lw_at lw_m1 164 rfl
theorem q327 : (Jvm.Cond.arrayOver (Jvm.ClassFile.FieldType.object "StreamQueries$Query")) ∈ lw_tbl := lw_at lw_m1 166 rfl
theorem q329 : (Jvm.Cond.arrayOver (Jvm.ClassFile.FieldType.object "StreamQueries$Select")) ∈ lw_tbl := lw_at lw_m1 168 rfl
theorem q161 : (Jvm.Cond.initialized "StreamQueriesLaw") ∈ lw_all := lw_g (lw_at lw_m1 0 rfl) rfl
theorem q181 : (Jvm.Cond.classLink "StreamQueriesLaw" (7 : Nat) "StreamQueries") ∈ lw_all := lw_g (lw_at lw_m1 20 rfl) rfl
theorem q183 : (Jvm.Cond.methodLink "StreamQueriesLaw" (9 : Nat) ({ cls := "StreamQueries", name := "<init>", desc := "()V" } : Jvm.MethodName)) ∈ lw_all := lw_g (lw_at lw_m1 22 rfl) rfl
theorem q463 : (Jvm.Cond.methodLink "StreamQueriesLaw" (13 : Nat) ({ cls := "StreamQueries", name := "feed", desc := "(IIIII)I" } : Jvm.MethodName)) ∈ lw_all := lw_g (lw_at lw_m2 62 rfl) rfl
theorem q471 : (Jvm.Cond.methodLink "StreamQueriesLaw" (18 : Nat) ({ cls := "StreamQueries", name := "cut", desc := "(I)I" } : Jvm.MethodName)) ∈ lw_all := lw_g (lw_at lw_m2 70 rfl) rfl
theorem q475 : (Jvm.Cond.methodLink "StreamQueriesLaw" (23 : Nat) ({ cls := "StreamQueries", name := "stream", desc := "(I)I" } : Jvm.MethodName)) ∈ lw_all := lw_g (lw_at lw_m2 74 rfl) rfl
theorem q479 : (Jvm.Cond.methodLink "StreamQueriesLaw" (27 : Nat) ({ cls := "StreamQueries", name := "query", desc := "()I" } : Jvm.MethodName)) ∈ lw_all := lw_g (lw_at lw_m2 78 rfl) rfl
theorem q1492 : (Jvm.Cond.methodLink "StreamQueriesLaw" (32 : Nat) ({ cls := "StreamQueries", name := "fault", desc := "()I" } : Jvm.MethodName)) ∈ lw_all := lw_g (lw_at lw_m6 131 rfl) rfl
theorem q1496 : (Jvm.Cond.methodLink "StreamQueriesLaw" (38 : Nat) ({ cls := "StreamQueries", name := "value", desc := "(J)I" } : Jvm.MethodName)) ∈ lw_all := lw_g (lw_at lw_m6 135 rfl) rfl
theorem q1501 : (Jvm.Cond.methodLink "StreamQueriesLaw" (43 : Nat) ({ cls := "StreamQueries", name := "nothing", desc := "()I" } : Jvm.MethodName)) ∈ lw_all := lw_g (lw_at lw_m6 140 rfl) rfl
theorem q1505 : (Jvm.Cond.methodLink "StreamQueriesLaw" (47 : Nat) ({ cls := "StreamQueries", name := "row", desc := "(IJ)I" } : Jvm.MethodName)) ∈ lw_all := lw_g (lw_at lw_m6 144 rfl) rfl
theorem q1516 : (Jvm.Cond.methodLink "StreamQueriesLaw" (52 : Nat) ({ cls := "StreamQueries", name := "back", desc := "(II)Z" } : Jvm.MethodName)) ∈ lw_all := lw_g (lw_at lw_m6 155 rfl) rfl
theorem q1520 : (Jvm.Cond.methodLink "StreamQueriesLaw" (57 : Nat) ({ cls := "StreamQueries", name := "watermark", desc := "(J)I" } : Jvm.MethodName)) ∈ lw_all := lw_g (lw_at lw_m6 159 rfl) rfl
theorem q1529 : (Jvm.Cond.methodLink "StreamQueriesLaw" (61 : Nat) ({ cls := "StreamQueries", name := "changes", desc := "()I" } : Jvm.MethodName)) ∈ lw_all := lw_g (lw_at lw_m6 168 rfl) rfl
theorem q1533 : (Jvm.Cond.methodLink "StreamQueriesLaw" (65 : Nat) ({ cls := "StreamQueries", name := "change", desc := "(I)I" } : Jvm.MethodName)) ∈ lw_all := lw_g (lw_at lw_m6 172 rfl) rfl
theorem q1538 : (Jvm.Cond.methodLink "StreamQueriesLaw" (69 : Nat) ({ cls := "StreamQueries", name := "changed", desc := "(II)J" } : Jvm.MethodName)) ∈ lw_all := lw_g (lw_at lw_m6 177 rfl) rfl
theorem q1548 : (Jvm.Cond.methodLink "StreamQueriesLaw" (74 : Nat) ({ cls := "StreamQueries", name := "changedNull", desc := "(II)Z" } : Jvm.MethodName)) ∈ lw_all := lw_g (lw_at lw_m6 187 rfl) rfl
theorem q1553 : (Jvm.Cond.methodLink "StreamQueriesLaw" (78 : Nat) ({ cls := "StreamQueries", name := "rows", desc := "()I" } : Jvm.MethodName)) ∈ lw_all := lw_g (lw_at lw_m6 192 rfl) rfl
theorem q1569 : (Jvm.Cond.methodLink "StreamQueriesLaw" (82 : Nat) ({ cls := "StreamQueries", name := "at", desc := "(II)J" } : Jvm.MethodName)) ∈ lw_all := lw_g (lw_at lw_m6 208 rfl) rfl
theorem q1585 : (Jvm.Cond.methodLink "StreamQueriesLaw" (86 : Nat) ({ cls := "StreamQueries", name := "isNull", desc := "(II)Z" } : Jvm.MethodName)) ∈ lw_all := lw_g (lw_at lw_m6 224 rfl) rfl
theorem q1589 : (Jvm.Cond.methodLink "StreamQueriesLaw" (90 : Nat) ({ cls := "StreamQueries", name := "type", desc := "(I)I" } : Jvm.MethodName)) ∈ lw_all := lw_g (lw_at lw_m6 228 rfl) rfl
theorem q1597 : (Jvm.Cond.methodLink "StreamQueriesLaw" (94 : Nat) ({ cls := "StreamQueries", name := "three", desc := "(III)I" } : Jvm.MethodName)) ∈ lw_all := lw_g (lw_at lw_m6 236 rfl) rfl
theorem q1601 : (Jvm.Cond.methodLink "StreamQueriesLaw" (99 : Nat) ({ cls := "StreamQueries", name := "told", desc := "(I)I" } : Jvm.MethodName)) ∈ lw_all := lw_g (lw_at lw_m7 0 rfl) rfl
theorem q1627 : (Jvm.Cond.classLink "StreamQueriesLaw" (10 : Nat) "StreamQueriesModel") ∈ lw_all := lw_g (lw_at lw_m7 26 rfl) rfl
theorem q1629 : (Jvm.Cond.methodLink "StreamQueriesLaw" (12 : Nat) ({ cls := "StreamQueriesModel", name := "<init>", desc := "()V" } : Jvm.MethodName)) ∈ lw_all := lw_g (lw_at lw_m7 28 rfl) rfl
theorem q1981 : (Jvm.Cond.methodLink "StreamQueriesLaw" (17 : Nat) ({ cls := "StreamQueriesModel", name := "feed", desc := "(IIIII)I" } : Jvm.MethodName)) ∈ lw_all := lw_g (lw_at lw_m8 140 rfl) rfl
theorem q1989 : (Jvm.Cond.methodLink "StreamQueriesLaw" (22 : Nat) ({ cls := "StreamQueriesModel", name := "cut", desc := "(I)I" } : Jvm.MethodName)) ∈ lw_all := lw_g (lw_at lw_m8 148 rfl) rfl
theorem q1993 : (Jvm.Cond.methodLink "StreamQueriesLaw" (26 : Nat) ({ cls := "StreamQueriesModel", name := "stream", desc := "(I)I" } : Jvm.MethodName)) ∈ lw_all := lw_g (lw_at lw_m8 152 rfl) rfl
theorem q1997 : (Jvm.Cond.methodLink "StreamQueriesLaw" (42 : Nat) ({ cls := "StreamQueriesModel", name := "value", desc := "(J)I" } : Jvm.MethodName)) ∈ lw_all := lw_g (lw_at lw_m8 156 rfl) rfl
theorem q2005 : (Jvm.Cond.methodLink "StreamQueriesLaw" (46 : Nat) ({ cls := "StreamQueriesModel", name := "nothing", desc := "()I" } : Jvm.MethodName)) ∈ lw_all := lw_g (lw_at lw_m8 164 rfl) rfl
theorem q2009 : (Jvm.Cond.methodLink "StreamQueriesLaw" (51 : Nat) ({ cls := "StreamQueriesModel", name := "row", desc := "(IJ)I" } : Jvm.MethodName)) ∈ lw_all := lw_g (lw_at lw_m8 168 rfl) rfl
theorem q2152 : (Jvm.Cond.methodLink "StreamQueriesLaw" (56 : Nat) ({ cls := "StreamQueriesModel", name := "back", desc := "(II)Z" } : Jvm.MethodName)) ∈ lw_all := lw_g (lw_at lw_m9 71 rfl) rfl
theorem q2156 : (Jvm.Cond.methodLink "StreamQueriesLaw" (60 : Nat) ({ cls := "StreamQueriesModel", name := "watermark", desc := "(J)I" } : Jvm.MethodName)) ∈ lw_all := lw_g (lw_at lw_m9 75 rfl) rfl
theorem q2160 : (Jvm.Cond.methodLink "StreamQueriesLaw" (31 : Nat) ({ cls := "StreamQueriesModel", name := "query", desc := "()I" } : Jvm.MethodName)) ∈ lw_all := lw_g (lw_at lw_m9 79 rfl) rfl
theorem q2399 : (Jvm.Cond.methodLink "StreamQueriesLaw" (35 : Nat) ({ cls := "StreamQueriesModel", name := "fault", desc := "()I" } : Jvm.MethodName)) ∈ lw_all := lw_g (lw_at lw_m10 78 rfl) rfl
theorem q2403 : (Jvm.Cond.methodLink "StreamQueriesLaw" (64 : Nat) ({ cls := "StreamQueriesModel", name := "changes", desc := "()I" } : Jvm.MethodName)) ∈ lw_all := lw_g (lw_at lw_m10 82 rfl) rfl
theorem q2407 : (Jvm.Cond.methodLink "StreamQueriesLaw" (68 : Nat) ({ cls := "StreamQueriesModel", name := "change", desc := "(I)I" } : Jvm.MethodName)) ∈ lw_all := lw_g (lw_at lw_m10 86 rfl) rfl
theorem q2411 : (Jvm.Cond.methodLink "StreamQueriesLaw" (73 : Nat) ({ cls := "StreamQueriesModel", name := "changed", desc := "(II)J" } : Jvm.MethodName)) ∈ lw_all := lw_g (lw_at lw_m10 90 rfl) rfl
theorem q2419 : (Jvm.Cond.methodLink "StreamQueriesLaw" (77 : Nat) ({ cls := "StreamQueriesModel", name := "changedNull", desc := "(II)Z" } : Jvm.MethodName)) ∈ lw_all := lw_g (lw_at lw_m10 98 rfl) rfl
theorem q2423 : (Jvm.Cond.methodLink "StreamQueriesLaw" (81 : Nat) ({ cls := "StreamQueriesModel", name := "rows", desc := "()I" } : Jvm.MethodName)) ∈ lw_all := lw_g (lw_at lw_m10 102 rfl) rfl
theorem q2427 : (Jvm.Cond.methodLink "StreamQueriesLaw" (85 : Nat) ({ cls := "StreamQueriesModel", name := "at", desc := "(II)J" } : Jvm.MethodName)) ∈ lw_all := lw_g (lw_at lw_m10 106 rfl) rfl
theorem q2435 : (Jvm.Cond.methodLink "StreamQueriesLaw" (89 : Nat) ({ cls := "StreamQueriesModel", name := "isNull", desc := "(II)Z" } : Jvm.MethodName)) ∈ lw_all := lw_g (lw_at lw_m10 114 rfl) rfl
theorem q2439 : (Jvm.Cond.methodLink "StreamQueriesLaw" (93 : Nat) ({ cls := "StreamQueriesModel", name := "type", desc := "(I)I" } : Jvm.MethodName)) ∈ lw_all := lw_g (lw_at lw_m10 118 rfl) rfl
theorem q2443 : (Jvm.Cond.methodLink "StreamQueriesLaw" (98 : Nat) ({ cls := "StreamQueriesModel", name := "three", desc := "(III)I" } : Jvm.MethodName)) ∈ lw_all := lw_g (lw_at lw_m10 122 rfl) rfl
theorem q2447 : (Jvm.Cond.methodLink "StreamQueriesLaw" (102 : Nat) ({ cls := "StreamQueriesModel", name := "told", desc := "(I)I" } : Jvm.MethodName)) ∈ lw_all := lw_g (lw_at lw_m10 126 rfl) rfl
theorem q2451 : (Jvm.Cond.constantLong "StreamQueriesLaw" (36 : Nat) (4294967295 : Int64)) ∈ lw_all := lw_g (lw_at lw_m10 130 rfl) rfl
theorem q170 : (Jvm.Cond.initialized "java/lang/System") ∈ lw_all := lw_g (lw_at lw_m1 9 rfl) rfl
theorem q492 : (Jvm.Cond.static ({ cls := "java/lang/System", name := "arraycopy", desc := "(Ljava/lang/Object;ILjava/lang/Object;II)V" } : Jvm.MethodName)) ∈ lw_all := lw_g (lw_at lw_m2 91 rfl) rfl
theorem q493 : (Jvm.Cond.native ({ cls := "java/lang/System", name := "arraycopy", desc := "(Ljava/lang/Object;ILjava/lang/Object;II)V" } : Jvm.MethodName)) ∈ lw_all := lw_g (lw_at lw_m2 92 rfl) rfl
abbrev cL_law : ByteArray := code
