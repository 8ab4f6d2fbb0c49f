set_option maxRecDepth 100000
/-! WordTongueLaw -/
set_option maxRecDepth 100000
def RX0 : String := "WordTongueLaw"
abbrev cX0_outAt : ByteArray := method_3_code
def yX0_outAt : MethodName := ⟨RX0, "outAt", "(LWordTongue;II[J)I"⟩
abbrev cX0_word : ByteArray := method_4_code
def yX0_word : MethodName := ⟨RX0, "word", "(LWordTongue;I[J)I"⟩
theorem q254 : (Jvm.Cond.initialized "WordTongueLaw") ∈ lw_all := lw_g (lw_at lw_m1 0 rfl) rfl
theorem q307 : (Jvm.Cond.classLink "WordTongueLaw" (8 : Nat) "WordTongue") ∈ lw_all := lw_g (lw_at lw_m1 53 rfl) rfl
theorem q309 : (Jvm.Cond.methodLink "WordTongueLaw" (19 : Nat) ({ cls := "WordTongue", name := "<init>", desc := "()V" } : Jvm.MethodName)) ∈ lw_all := lw_g (lw_at lw_m1 55 rfl) rfl
theorem q1368 : (Jvm.Cond.methodLink "WordTongueLaw" (23 : Nat) ({ cls := "WordTongue", name := "feed", desc := "(IIIII)Z" } : Jvm.MethodName)) ∈ lw_all := lw_g (lw_at lw_m5 154 rfl) rfl
theorem q1372 : (Jvm.Cond.methodLink "WordTongueLaw" (28 : Nat) ({ cls := "WordTongue", name := "end", desc := "(I)Z" } : Jvm.MethodName)) ∈ lw_all := lw_g (lw_at lw_m5 158 rfl) rfl
theorem q1376 : (Jvm.Cond.methodLink "WordTongueLaw" (42 : Nat) ({ cls := "WordTongue", name := "store", desc := "(I)Z" } : Jvm.MethodName)) ∈ lw_all := lw_g (lw_at lw_m5 162 rfl) rfl
theorem q1386 : (Jvm.Cond.methodLink "WordTongueLaw" (33 : Nat) ({ cls := "WordTongue", name := "compile", desc := "()I" } : Jvm.MethodName)) ∈ lw_all := lw_g (lw_at lw_m5 172 rfl) rfl
theorem q3108 : (Jvm.Cond.methodLink "WordTongueLaw" (38 : Nat) ({ cls := "WordTongue", name := "fault", desc := "()I" } : Jvm.MethodName)) ∈ lw_all := lw_g (lw_at lw_m12 214 rfl) rfl
theorem q3112 : (Jvm.Cond.methodLink "WordTongueLaw" (46 : Nat) ({ cls := "WordTongue", name := "input", desc := "(I)I" } : Jvm.MethodName)) ∈ lw_all := lw_g (lw_at lw_m12 218 rfl) rfl
theorem q3121 : (Jvm.Cond.methodLink "WordTongueLaw" (50 : Nat) ({ cls := "WordTongue", name := "run", desc := "(I)I" } : Jvm.MethodName)) ∈ lw_all := lw_g (lw_at lw_m12 227 rfl) rfl
theorem q3261 : (Jvm.Cond.methodLink "WordTongueLaw" (54 : Nat) ({ cls := "WordTongue", name := "value", desc := "()I" } : Jvm.MethodName)) ∈ lw_all := lw_g (lw_at lw_m13 127 rfl) rfl
theorem q3265 : (Jvm.Cond.methodLink "WordTongueLaw" (58 : Nat) ({ cls := "WordTongue", name := "out", desc := "(I)I" } : Jvm.MethodName)) ∈ lw_all := lw_g (lw_at lw_m13 131 rfl) rfl
theorem q3269 : (Jvm.Cond.methodLink "WordTongueLaw" (75 : Nat) ({ cls := "WordTongue", name := "fuel", desc := "()I" } : Jvm.MethodName)) ∈ lw_all := lw_g (lw_at lw_m13 135 rfl) rfl
theorem q3273 : (Jvm.Cond.methodLink "WordTongueLaw" (62 : Nat) ({ cls := "WordTongueLaw", name := "outAt", desc := "(LWordTongue;II[J)I" } : Jvm.MethodName)) ∈ lw_all := lw_g (lw_at lw_m13 139 rfl) rfl
theorem q3274 : (Jvm.Cond.static ({ cls := "WordTongueLaw", name := "outAt", desc := "(LWordTongue;II[J)I" } : Jvm.MethodName)) ∈ lw_all := lw_g (lw_at lw_m13 140 rfl) rfl
theorem q3275 : (Jvm.Cond.codeWith ({ cls := "WordTongueLaw", name := "outAt", desc := "(LWordTongue;II[J)I" } : Jvm.MethodName) method_3_code (5 : Nat) (Option.some Jvm.ClassFile.FieldType.int) [((0 : Nat), (10 : Nat), (13 : Nat), (13 : Nat))]) ∈ lw_all := lw_g (lw_at lw_m13 141 rfl) rfl
theorem q3276 : (Jvm.Cond.classLink "WordTongueLaw" (13 : Nat) "java/util/NoSuchElementException") ∈ lw_all := lw_g (lw_at lw_m13 142 rfl) rfl
theorem q3277 : (Jvm.Cond.methodLink "WordTongueLaw" (7 : Nat) ({ cls := "WordTongue", name := "outAt", desc := "(II)I" } : Jvm.MethodName)) ∈ lw_all := lw_g (lw_at lw_m13 143 rfl) rfl
theorem q3299 : (Jvm.Cond.methodLink "WordTongueLaw" (71 : Nat) ({ cls := "WordTongueLaw", name := "word", desc := "(LWordTongue;I[J)I" } : Jvm.MethodName)) ∈ lw_all := lw_g (lw_at lw_m13 165 rfl) rfl
theorem q3300 : (Jvm.Cond.static ({ cls := "WordTongueLaw", name := "word", desc := "(LWordTongue;I[J)I" } : Jvm.MethodName)) ∈ lw_all := lw_g (lw_at lw_m13 166 rfl) rfl
theorem q3301 : (Jvm.Cond.codeWith ({ cls := "WordTongueLaw", name := "word", desc := "(LWordTongue;I[J)I" } : Jvm.MethodName) method_4_code (4 : Nat) (Option.some Jvm.ClassFile.FieldType.int) [((0 : Nat), (9 : Nat), (12 : Nat), (13 : Nat))]) ∈ lw_all := lw_g (lw_at lw_m13 167 rfl) rfl
theorem q3302 : (Jvm.Cond.methodLink "WordTongueLaw" (15 : Nat) ({ cls := "WordTongue", name := "word", desc := "(I)I" } : Jvm.MethodName)) ∈ lw_all := lw_g (lw_at lw_m13 168 rfl) rfl
theorem q3306 : (Jvm.Cond.classLink "WordTongueLaw" (20 : Nat) "WordTongueModel") ∈ lw_all := lw_g (lw_at lw_m13 172 rfl) rfl
theorem q3308 : (Jvm.Cond.methodLink "WordTongueLaw" (22 : Nat) ({ cls := "WordTongueModel", name := "<init>", desc := "()V" } : Jvm.MethodName)) ∈ lw_all := lw_g (lw_at lw_m13 174 rfl) rfl
theorem q3674 : (Jvm.Cond.methodLink "WordTongueLaw" (68 : Nat) ({ cls := "WordTongueModel", name := "thrown", desc := "()I" } : Jvm.MethodName)) ∈ lw_all := lw_g (lw_at lw_m15 60 rfl) rfl
theorem q3678 : (Jvm.Cond.methodLink "WordTongueLaw" (27 : Nat) ({ cls := "WordTongueModel", name := "feed", desc := "(IIIII)Z" } : Jvm.MethodName)) ∈ lw_all := lw_g (lw_at lw_m15 64 rfl) rfl
theorem q3682 : (Jvm.Cond.methodLink "WordTongueLaw" (32 : Nat) ({ cls := "WordTongueModel", name := "end", desc := "(I)Z" } : Jvm.MethodName)) ∈ lw_all := lw_g (lw_at lw_m15 68 rfl) rfl
theorem q3686 : (Jvm.Cond.methodLink "WordTongueLaw" (37 : Nat) ({ cls := "WordTongueModel", name := "compile", desc := "()I" } : Jvm.MethodName)) ∈ lw_all := lw_g (lw_at lw_m15 72 rfl) rfl
theorem q4100 : (Jvm.Cond.methodLink "WordTongueLaw" (41 : Nat) ({ cls := "WordTongueModel", name := "fault", desc := "()I" } : Jvm.MethodName)) ∈ lw_all := lw_g (lw_at lw_m17 6 rfl) rfl
theorem q4104 : (Jvm.Cond.methodLink "WordTongueLaw" (45 : Nat) ({ cls := "WordTongueModel", name := "store", desc := "(I)Z" } : Jvm.MethodName)) ∈ lw_all := lw_g (lw_at lw_m17 10 rfl) rfl
theorem q4109 : (Jvm.Cond.methodLink "WordTongueLaw" (49 : Nat) ({ cls := "WordTongueModel", name := "input", desc := "(I)I" } : Jvm.MethodName)) ∈ lw_all := lw_g (lw_at lw_m17 15 rfl) rfl
theorem q4120 : (Jvm.Cond.methodLink "WordTongueLaw" (53 : Nat) ({ cls := "WordTongueModel", name := "run", desc := "(I)I" } : Jvm.MethodName)) ∈ lw_all := lw_g (lw_at lw_m17 26 rfl) rfl
theorem q4287 : (Jvm.Cond.methodLink "WordTongueLaw" (57 : Nat) ({ cls := "WordTongueModel", name := "value", desc := "()I" } : Jvm.MethodName)) ∈ lw_all := lw_g (lw_at lw_m17 193 rfl) rfl
theorem q4291 : (Jvm.Cond.methodLink "WordTongueLaw" (61 : Nat) ({ cls := "WordTongueModel", name := "out", desc := "(I)I" } : Jvm.MethodName)) ∈ lw_all := lw_g (lw_at lw_m17 197 rfl) rfl
theorem q4295 : (Jvm.Cond.methodLink "WordTongueLaw" (67 : Nat) ({ cls := "WordTongueModel", name := "outAt", desc := "(II)I" } : Jvm.MethodName)) ∈ lw_all := lw_g (lw_at lw_m17 201 rfl) rfl
theorem q4299 : (Jvm.Cond.methodLink "WordTongueLaw" (74 : Nat) ({ cls := "WordTongueModel", name := "word", desc := "(I)I" } : Jvm.MethodName)) ∈ lw_all := lw_g (lw_at lw_m17 205 rfl) rfl
theorem q4303 : (Jvm.Cond.methodLink "WordTongueLaw" (78 : Nat) ({ cls := "WordTongueModel", name := "fuel", desc := "()I" } : Jvm.MethodName)) ∈ lw_all := lw_g (lw_at lw_m17 209 rfl) rfl
/-! WordTongue -/
set_option maxRecDepth 100000
def RX1 : String := "WordTongue"
def TX1 : u_T := fun k => match k with
  | 0 => ("WordTongue", "tape", "[B", true)
  | 1 => ("WordTongue", "length", "I", false)
  | 2 => ("WordTongue", "fault", "I", false)
  | 3 => ("WordTongue", "loader", "LWordTongue$Loader;", true)
  | 4 => ("WordTongue", "generator", "LWordTongue$Generator;", true)
  | 5 => ("WordTongue", "better", "LWordTongue$Better;", true)
  | 6 => ("WordTongue", "code", "[I", false)
  | 7 => ("WordTongue", "firsts", "[I", true)
  | 8 => ("WordTongue", "parameters", "[I", true)
  | 9 => ("WordTongue", "mosts", "[I", true)
  | 10 => ("WordTongue", "keeps", "[I", true)
  | 11 => ("WordTongue", "routines", "I", false)
  | 12 => ("WordTongue", "words", "I", false)
  | 13 => ("WordTongue", "start", "I", false)
  | 14 => ("WordTongue", "size", "I", false)
  | 15 => ("WordTongue", "wanted", "I", false)
  | 16 => ("WordTongue", "data", "[I", true)
  | 17 => ("WordTongue", "entries", "[I", true)
  | 18 => ("WordTongue", "library", "Ljava/util/Map;", true)
  | 19 => ("WordTongue", "inputs", "[LWordTongue$Stream;", true)
  | 20 => ("WordTongue", "outputs", "[LWordTongue$Stream;", true)
  | 21 => ("WordTongue", "input", "LWordTongue$Stream;", false)
  | 22 => ("WordTongue", "output", "LWordTongue$Stream;", false)
  | 23 => ("WordTongue", "store", "[I", true)
  | 24 => ("WordTongue", "a", "I", false)
  | 25 => ("WordTongue", "b", "I", false)
  | 26 => ("WordTongue", "p", "I", false)
  | 27 => ("WordTongue", "q", "I", false)
  | 28 => ("WordTongue", "c", "I", false)
  | 29 => ("WordTongue", "row", "[I", false)
  | 30 => ("WordTongue", "way", "[I", true)
  | 31 => ("WordTongue", "backs", "[I", true)
  | 32 => ("WordTongue", "bases", "[I", true)
  | 33 => ("WordTongue", "rows", "[I", true)
  | 34 => ("WordTongue", "deep", "I", false)
  | 35 => ("WordTongue", "fuel", "I", false)
  | 36 => ("WordTongue", "told", "I", false)
  | 37 => ("WordTongue", "vectors", "[I", false)
  | 38 => ("WordTongue", "sizes", "[I", false)
  | _ => ("WordTongue", "vectorMany", "I", false)
def tyX1 : Nat → FieldType := fun k => match k with
  | 0 => .array .byte
  | 1 => .int
  | 2 => .int
  | 3 => .object "WordTongue$Loader"
  | 4 => .object "WordTongue$Generator"
  | 5 => .object "WordTongue$Better"
  | 6 => .array .int
  | 7 => .array .int
  | 8 => .array .int
  | 9 => .array .int
  | 10 => .array .int
  | 11 => .int
  | 12 => .int
  | 13 => .int
  | 14 => .int
  | 15 => .int
  | 16 => .array .int
  | 17 => .array .int
  | 18 => .object "java/util/Map"
  | 19 => .array (.object "WordTongue$Stream")
  | 20 => .array (.object "WordTongue$Stream")
  | 21 => .object "WordTongue$Stream"
  | 22 => .object "WordTongue$Stream"
  | 23 => .array .int
  | 24 => .int
  | 25 => .int
  | 26 => .int
  | 27 => .int
  | 28 => .int
  | 29 => .array .int
  | 30 => .array .int
  | 31 => .array .int
  | 32 => .array .int
  | 33 => .array .int
  | 34 => .int
  | 35 => .int
  | 36 => .int
  | 37 => .array .int
  | 38 => .array .int
  | _ => .int
abbrev wsX10 : List Cond := u_ws RX1 TX1 40
set_option maxRecDepth 100000 in
theorem nmX1 : ∀ a, a < 40 → ∀ b, b < 40 → a ≠ b → (TX1 a).2.1 ≠ (TX1 b).2.1 := by decide +kernel
set_option maxRecDepth 100000 in
theorem tyX1_ok : ∀ k, k < 40 → parseFieldDescriptor (TX1 k).2.2.1 = some (tyX1 k) := by decide +kernel
abbrev cX1_init : ByteArray := prog_1_method_10_code
def yX1_init : MethodName := ⟨RX1, "<init>", "()V"⟩
abbrev cX1_libraryNames : ByteArray := prog_1_method_11_code
def yX1_libraryNames : MethodName := ⟨RX1, "libraryNames", "()Ljava/util/Map;"⟩
abbrev cX1_feed : ByteArray := prog_1_method_12_code
def yX1_feed : MethodName := ⟨RX1, "feed", "(IIIII)Z"⟩
abbrev cX1_end : ByteArray := prog_1_method_13_code
def yX1_end : MethodName := ⟨RX1, "end", "(I)Z"⟩
abbrev cX1_store : ByteArray := prog_1_method_14_code
def yX1_store : MethodName := ⟨RX1, "store", "(I)Z"⟩
abbrev cX1_compile : ByteArray := prog_1_method_15_code
def yX1_compile : MethodName := ⟨RX1, "compile", "()I"⟩
abbrev cX1_levelOf : ByteArray := prog_1_method_1_code
def yX1_levelOf : MethodName := ⟨RX1, "levelOf", "(Ljava/lang/String;)I"⟩
abbrev cX1_isKeyword : ByteArray := prog_1_method_4_code
def yX1_isKeyword : MethodName := ⟨RX1, "isKeyword", "(Ljava/lang/String;)Z"⟩
abbrev cX1_begins : ByteArray := prog_1_method_3_code
def yX1_begins : MethodName := ⟨RX1, "begins", "(Ljava/lang/String;)Z"⟩
abbrev cX1_ends : ByteArray := prog_1_method_2_code
def yX1_ends : MethodName := ⟨RX1, "ends", "(Ljava/lang/String;)Z"⟩
abbrev cX1_operatorOf : ByteArray := prog_1_method_5_code
def yX1_operatorOf : MethodName := ⟨RX1, "operatorOf", "(Ljava/lang/String;)I"⟩
abbrev cX1_relationOf : ByteArray := prog_1_method_6_code
def yX1_relationOf : MethodName := ⟨RX1, "relationOf", "(Ljava/lang/String;)I"⟩
abbrev cX1_holds : ByteArray := prog_1_method_9_code
def yX1_holds : MethodName := ⟨RX1, "holds", "(III)Z"⟩
abbrev cX1_operated : ByteArray := prog_1_method_8_code
def yX1_operated : MethodName := ⟨RX1, "operated", "(III)I"⟩
abbrev cX1_shifted : ByteArray := prog_1_method_7_code
def yX1_shifted : MethodName := ⟨RX1, "shifted", "(IIZ)I"⟩
abbrev cX1_lays : ByteArray := prog_1_method_16_code
def yX1_lays : MethodName := ⟨RX1, "lays", "(LWordTongue$Translator;)V"⟩
abbrev cX1_fault : ByteArray := prog_1_method_17_code
def yX1_fault : MethodName := ⟨RX1, "fault", "()I"⟩
abbrev cX1_input : ByteArray := prog_1_method_18_code
def yX1_input : MethodName := ⟨RX1, "input", "(I)I"⟩
abbrev cX1_run : ByteArray := prog_1_method_42_code
def yX1_run : MethodName := ⟨RX1, "run", "(I)I"⟩
abbrev cX1_enter : ByteArray := prog_1_method_26_code
def yX1_enter : MethodName := ⟨RX1, "enter", "(IIII)V"⟩
abbrev cX1_spend : ByteArray := prog_1_method_24_code
def yX1_spend : MethodName := ⟨RX1, "spend", "()V"⟩
abbrev cX1_must : ByteArray := prog_1_method_22_code
def yX1_must : MethodName := ⟨RX1, "must", "(ZI)V"⟩
abbrev cX1_limit : ByteArray := prog_1_method_25_code
def yX1_limit : MethodName := ⟨RX1, "limit", "()I"⟩
abbrev cX1_step : ByteArray := prog_1_method_39_code
def yX1_step : MethodName := ⟨RX1, "step", "()V"⟩
abbrev cX1_call : ByteArray := prog_1_method_29_code
def yX1_call : MethodName := ⟨RX1, "call", "(I)V"⟩
abbrev cX1_isEntry : ByteArray := prog_1_method_27_code
def yX1_isEntry : MethodName := ⟨RX1, "isEntry", "(I)Z"⟩
abbrev cX1_isLibrary : ByteArray := prog_1_method_28_code
def yX1_isLibrary : MethodName := ⟨RX1, "isLibrary", "(I)Z"⟩
abbrev cX1_library : ByteArray := prog_1_method_32_code
def yX1_library : MethodName := ⟨RX1, "library", "(IIII)V"⟩
abbrev cX1_argument : ByteArray := prog_1_method_31_code
def yX1_argument : MethodName := ⟨RX1, "argument", "(III)I"⟩
abbrev cX1_decimal : ByteArray := prog_1_method_21_code
def yX1_decimal : MethodName := ⟨RX1, "decimal", "(II)V"⟩
abbrev cX1_digits : ByteArray := prog_1_method_20_code
def yX1_digits : MethodName := ⟨RX1, "digits", "(I)I"⟩
abbrev cX1_write : ByteArray := prog_1_method_19_code
def yX1_write : MethodName := ⟨RX1, "write", "(I)V"⟩
abbrev cX1_string : ByteArray := prog_1_method_34_code
def yX1_string : MethodName := ⟨RX1, "string", "(I)V"⟩
abbrev cX1_isWord : ByteArray := prog_1_method_23_code
def yX1_isWord : MethodName := ⟨RX1, "isWord", "(J)Z"⟩
abbrev cX1_free : ByteArray := prog_1_method_37_code
def yX1_free : MethodName := ⟨RX1, "free", "(I)V"⟩
abbrev cX1_applied : ByteArray := prog_1_method_38_code
def yX1_applied : MethodName := ⟨RX1, "applied", "(IIII)V"⟩
abbrev cX1_hexadecimal : ByteArray := prog_1_method_35_code
def yX1_hexadecimal : MethodName := ⟨RX1, "hexadecimal", "(II)V"⟩
abbrev cX1_valued : ByteArray := prog_1_method_33_code
def yX1_valued : MethodName := ⟨RX1, "valued", "(IIIII)I"⟩
abbrev cX1_got : ByteArray := prog_1_method_36_code
def yX1_got : MethodName := ⟨RX1, "got", "(II)I"⟩
abbrev cX1_does : ByteArray := prog_1_method_40_code
def yX1_does : MethodName := ⟨RX1, "does", "(I)V"⟩
abbrev cX1_back : ByteArray := prog_1_method_30_code
def yX1_back : MethodName := ⟨RX1, "back", "()V"⟩
abbrev cX1_calculates : ByteArray := prog_1_method_41_code
def yX1_calculates : MethodName := ⟨RX1, "calculates", "(I)V"⟩
abbrev cX1_value : ByteArray := prog_1_method_43_code
def yX1_value : MethodName := ⟨RX1, "value", "()I"⟩
abbrev cX1_out : ByteArray := prog_1_method_45_code
def yX1_out : MethodName := ⟨RX1, "out", "(I)I"⟩
abbrev cX1_fuel : ByteArray := prog_1_method_48_code
def yX1_fuel : MethodName := ⟨RX1, "fuel", "()I"⟩
abbrev cX1_outAt : ByteArray := prog_1_method_46_code
def yX1_outAt : MethodName := ⟨RX1, "outAt", "(II)I"⟩
abbrev cX1_exists : ByteArray := prog_1_method_44_code
def yX1_exists : MethodName := ⟨RX1, "exists", "(Z)V"⟩
abbrev cX1_word : ByteArray := prog_1_method_47_code
def yX1_word : MethodName := ⟨RX1, "word", "(I)I"⟩
theorem q255 : (Jvm.Cond.initialized "WordTongue") ∈ lw_all := lw_g (lw_at lw_m1 1 rfl) rfl
theorem q308 : (Jvm.Cond.instantiable "WordTongue" (40 : Nat)) ∈ lw_all := lw_g (lw_at lw_m1 54 rfl) rfl
theorem q310 : (Jvm.Cond.instanceMethod ({ cls := "WordTongue", name := "<init>", desc := "()V" } : Jvm.MethodName)) ∈ lw_all := lw_g (lw_at lw_m1 56 rfl) rfl
theorem q311 : (Jvm.Cond.code ({ cls := "WordTongue", name := "<init>", desc := "()V" } : Jvm.MethodName) prog_1_method_10_code (1 : Nat) (Option.none : Option Jvm.ClassFile.FieldType)) ∈ lw_all := lw_g (lw_at lw_m1 57 rfl) rfl
theorem q312 : (Jvm.Cond.methodLink "WordTongue" (152 : Nat) ({ cls := "java/lang/Object", name := "<init>", desc := "()V" } : Jvm.MethodName)) ∈ lw_all := lw_g (lw_at lw_m1 58 rfl) rfl
theorem q315 : (Jvm.Cond.classLink "WordTongue" (162 : Nat) "WordTongue$Loader") ∈ lw_all := lw_g (lw_at lw_m1 61 rfl) rfl
theorem q317 : (Jvm.Cond.methodLinkNest "WordTongue" (164 : Nat) ({ cls := "WordTongue$Loader", name := "<init>", desc := "()V" } : Jvm.MethodName) "WordTongue") ∈ lw_tbl := lw_at lw_m1 63 rfl
theorem q322 : (Jvm.Cond.fieldLink "WordTongue" (183 : Nat) "WordTongue$Loader" "words" "[I") ∈ lw_all := lw_g (lw_at lw_m1 68 rfl) rfl
theorem q324 : (Jvm.Cond.fieldLink "WordTongue" (366 : Nat) "WordTongue$Loader" "many" "I") ∈ lw_all := lw_g (lw_at lw_m1 70 rfl) rfl
theorem q347 : (Jvm.Cond.classLink "WordTongue" (169 : Nat) "WordTongue$Generator") ∈ lw_all := lw_g (lw_at lw_m1 93 rfl) rfl
theorem q349 : (Jvm.Cond.methodLinkNest "WordTongue" (171 : Nat) ({ cls := "WordTongue$Generator", name := "<init>", desc := "()V" } : Jvm.MethodName) "WordTongue") ∈ lw_tbl := lw_at lw_m1 95 rfl
theorem q370 : (Jvm.Cond.fieldLink "WordTongue" (382 : Nat) "WordTongue$Generator" "out" "LWordTongue$Row;") ∈ lw_all := lw_g (lw_at lw_m1 116 rfl) rfl
theorem q420 : (Jvm.Cond.classLink "WordTongue" (176 : Nat) "WordTongue$Better") ∈ lw_all := lw_g (lw_at lw_m1 166 rfl) rfl
theorem q422 : (Jvm.Cond.methodLinkNest "WordTongue" (178 : Nat) ({ cls := "WordTongue$Better", name := "<init>", desc := "()V" } : Jvm.MethodName) "WordTongue") ∈ lw_tbl := lw_at lw_m1 168 rfl
theorem q451 : (Jvm.Cond.methodLink "WordTongue" (218 : Nat) ({ cls := "WordTongue", name := "libraryNames", desc := "()Ljava/util/Map;" } : Jvm.MethodName)) ∈ lw_all := lw_g (lw_at lw_m1 197 rfl) rfl
theorem q452 : (Jvm.Cond.static ({ cls := "WordTongue", name := "libraryNames", desc := "()Ljava/util/Map;" } : Jvm.MethodName)) ∈ lw_all := lw_g (lw_at lw_m1 198 rfl) rfl
theorem q453 : (Jvm.Cond.code ({ cls := "WordTongue", name := "libraryNames", desc := "()Ljava/util/Map;" } : Jvm.MethodName) prog_1_method_11_code (4 : Nat) (Option.some (Jvm.ClassFile.FieldType.object "java/util/Map"))) ∈ lw_all := lw_g (lw_at lw_m1 199 rfl) rfl
theorem q454 : (Jvm.Cond.classLink "WordTongue" (270 : Nat) "java/util/HashMap") ∈ lw_all := lw_g (lw_at lw_m1 200 rfl) rfl
theorem q456 : (Jvm.Cond.methodLink "WordTongue" (272 : Nat) ({ cls := "java/util/HashMap", name := "<init>", desc := "()V" } : Jvm.MethodName)) ∈ lw_all := lw_g (lw_at lw_m1 202 rfl) rfl
theorem q486 : (Jvm.Cond.stringRef "WordTongue" (273 : Nat) "WRITEN WRITES WRCH NEWLINE RDCH STOP ABS UNRDCH SELECTINPUT SELECTOUTPUT REWIND GETVEC FREEVEC APTOVEC MULDIV WRITED WRITEHEX READN") ∈ lw_tbl := lw_at lw_m1 232 rfl
theorem q487 : (Jvm.Cond.methodLink "WordTongue" (275 : Nat) ({ cls := "java/lang/String", name := "length", desc := "()I" } : Jvm.MethodName)) ∈ lw_all := lw_g (lw_at lw_m1 233 rfl) rfl
theorem q497 : (Jvm.Cond.methodLink "WordTongue" (137 : Nat) ({ cls := "java/lang/String", name := "charAt", desc := "(I)C" } : Jvm.MethodName)) ∈ lw_all := lw_g (lw_at lw_m2 3 rfl) rfl
theorem q535 : (Jvm.Cond.methodLink "WordTongue" (278 : Nat) ({ cls := "java/lang/String", name := "substring", desc := "(II)Ljava/lang/String;" } : Jvm.MethodName)) ∈ lw_all := lw_g (lw_at lw_m2 41 rfl) rfl
theorem q621 : (Jvm.Cond.classLink "WordTongue" (282 : Nat) "WordTongue$Meaning") ∈ lw_all := lw_g (lw_at lw_m2 127 rfl) rfl
theorem q623 : (Jvm.Cond.fieldLink "WordTongue" (284 : Nat) "WordTongue$Sort" "ENTRY" "LWordTongue$Sort;") ∈ lw_all := lw_g (lw_at lw_m2 129 rfl) rfl
theorem q625 : (Jvm.Cond.constant "WordTongue" (290 : Nat) (2000000 : Int32)) ∈ lw_all := lw_g (lw_at lw_m2 131 rfl) rfl
theorem q626 : (Jvm.Cond.methodLink "WordTongue" (291 : Nat) ({ cls := "WordTongue$Meaning", name := "<init>", desc := "(LWordTongue$Sort;I)V" } : Jvm.MethodName)) ∈ lw_all := lw_g (lw_at lw_m2 132 rfl) rfl
theorem q658 : (Jvm.Cond.interfaceEntry "WordTongue" (294 : Nat)) ∈ lw_tbl := lw_at lw_m2 164 rfl
theorem q659 : (Jvm.Cond.methodLink "WordTongue" (294 : Nat) ({ cls := "java/util/Map", name := "put", desc := "(Ljava/lang/Object;Ljava/lang/Object;)Ljava/lang/Object;" } : Jvm.MethodName)) ∈ lw_all := lw_g (lw_at lw_m2 165 rfl) rfl
theorem q675 : (Jvm.Cond.selects "WordTongue" ({ cls := "java/lang/Object", name := "hashCode", desc := "()I" } : Jvm.MethodName) ({ cls := "java/lang/Object", name := "hashCode", desc := "()I" } : Jvm.MethodName)) ∈ lw_all := lw_g (lw_at lw_m2 181 rfl) rfl
theorem q825 : (Jvm.Cond.selects "WordTongue" ({ cls := "java/lang/Object", name := "getClass", desc := "()Ljava/lang/Class;" } : Jvm.MethodName) ({ cls := "java/lang/Object", name := "getClass", desc := "()Ljava/lang/Class;" } : Jvm.MethodName)) ∈ lw_all := lw_g (lw_at lw_m3 91 rfl) rfl
theorem q1109 : (Jvm.Cond.selects "WordTongue" ({ cls := "java/lang/Object", name := "equals", desc := "(Ljava/lang/Object;)Z" } : Jvm.MethodName) ({ cls := "java/lang/Object", name := "equals", desc := "(Ljava/lang/Object;)Z" } : Jvm.MethodName)) ∈ lw_all := lw_g (lw_at lw_m4 135 rfl) rfl
theorem q1214 : (Jvm.Cond.classLink "WordTongue" (226 : Nat) "WordTongue$Stream") ∈ lw_all := lw_g (lw_at lw_m5 0 rfl) rfl
theorem q1217 : (Jvm.Cond.methodLink "WordTongue" (228 : Nat) ({ cls := "WordTongue$Stream", name := "<init>", desc := "(IZ)V" } : Jvm.MethodName)) ∈ lw_all := lw_g (lw_at lw_m5 3 rfl) rfl
theorem q1222 : (Jvm.Cond.fieldLink "WordTongue" (397 : Nat) "WordTongue$Stream" "bytes" "[B") ∈ lw_all := lw_g (lw_at lw_m5 8 rfl) rfl
theorem q1224 : (Jvm.Cond.fieldLink "WordTongue" (556 : Nat) "WordTongue$Stream" "many" "I") ∈ lw_all := lw_g (lw_at lw_m5 10 rfl) rfl
theorem q1226 : (Jvm.Cond.fieldLink "WordTongue" (510 : Nat) "WordTongue$Stream" "at" "I") ∈ lw_all := lw_g (lw_at lw_m5 12 rfl) rfl
theorem q1246 : (Jvm.Cond.constant "WordTongue" (245 : Nat) (65536 : Int32)) ∈ lw_all := lw_g (lw_at lw_m5 32 rfl) rfl
theorem q1247 : (Jvm.Cond.fieldLink "WordTongue" (158 : Nat) "WordTongue" "tape" "[B") ∈ lw_all := lw_g (lw_at lw_m5 33 rfl) rfl
theorem q1248 : (Jvm.Cond.fieldLink "WordTongue" (300 : Nat) "WordTongue" "length" "I") ∈ lw_all := lw_g (lw_at lw_m5 34 rfl) rfl
theorem q1249 : (Jvm.Cond.fieldLink "WordTongue" (308 : Nat) "WordTongue" "fault" "I") ∈ lw_all := lw_g (lw_at lw_m5 35 rfl) rfl
theorem q1250 : (Jvm.Cond.fieldLink "WordTongue" (165 : Nat) "WordTongue" "loader" "LWordTongue$Loader;") ∈ lw_all := lw_g (lw_at lw_m5 36 rfl) rfl
theorem q1251 : (Jvm.Cond.fieldLink "WordTongue" (172 : Nat) "WordTongue" "generator" "LWordTongue$Generator;") ∈ lw_all := lw_g (lw_at lw_m5 37 rfl) rfl
theorem q1252 : (Jvm.Cond.fieldLink "WordTongue" (179 : Nat) "WordTongue" "better" "LWordTongue$Better;") ∈ lw_all := lw_g (lw_at lw_m5 38 rfl) rfl
theorem q1253 : (Jvm.Cond.fieldLink "WordTongue" (187 : Nat) "WordTongue" "code" "[I") ∈ lw_all := lw_g (lw_at lw_m5 39 rfl) rfl
theorem q1254 : (Jvm.Cond.fieldLink "WordTongue" (190 : Nat) "WordTongue" "firsts" "[I") ∈ lw_all := lw_g (lw_at lw_m5 40 rfl) rfl
theorem q1255 : (Jvm.Cond.fieldLink "WordTongue" (193 : Nat) "WordTongue" "parameters" "[I") ∈ lw_all := lw_g (lw_at lw_m5 41 rfl) rfl
theorem q1256 : (Jvm.Cond.fieldLink "WordTongue" (196 : Nat) "WordTongue" "mosts" "[I") ∈ lw_all := lw_g (lw_at lw_m5 42 rfl) rfl
theorem q1257 : (Jvm.Cond.fieldLink "WordTongue" (199 : Nat) "WordTongue" "keeps" "[I") ∈ lw_all := lw_g (lw_at lw_m5 43 rfl) rfl
theorem q1258 : (Jvm.Cond.fieldLink "WordTongue" (364 : Nat) "WordTongue" "routines" "I") ∈ lw_all := lw_g (lw_at lw_m5 44 rfl) rfl
theorem q1259 : (Jvm.Cond.fieldLink "WordTongue" (355 : Nat) "WordTongue" "words" "I") ∈ lw_all := lw_g (lw_at lw_m5 45 rfl) rfl
theorem q1260 : (Jvm.Cond.fieldLink "WordTongue" (202 : Nat) "WordTongue" "start" "I") ∈ lw_all := lw_g (lw_at lw_m5 46 rfl) rfl
theorem q1261 : (Jvm.Cond.fieldLink "WordTongue" (206 : Nat) "WordTongue" "size" "I") ∈ lw_all := lw_g (lw_at lw_m5 47 rfl) rfl
theorem q1262 : (Jvm.Cond.fieldLink "WordTongue" (209 : Nat) "WordTongue" "wanted" "I") ∈ lw_all := lw_g (lw_at lw_m5 48 rfl) rfl
theorem q1263 : (Jvm.Cond.fieldLink "WordTongue" (212 : Nat) "WordTongue" "data" "[I") ∈ lw_all := lw_g (lw_at lw_m5 49 rfl) rfl
theorem q1264 : (Jvm.Cond.fieldLink "WordTongue" (215 : Nat) "WordTongue" "entries" "[I") ∈ lw_all := lw_g (lw_at lw_m5 50 rfl) rfl
theorem q1265 : (Jvm.Cond.fieldLink "WordTongue" (222 : Nat) "WordTongue" "library" "Ljava/util/Map;") ∈ lw_all := lw_g (lw_at lw_m5 51 rfl) rfl
theorem q1266 : (Jvm.Cond.fieldLink "WordTongue" (231 : Nat) "WordTongue" "inputs" "[LWordTongue$Stream;") ∈ lw_all := lw_g (lw_at lw_m5 52 rfl) rfl
theorem q1267 : (Jvm.Cond.fieldLink "WordTongue" (235 : Nat) "WordTongue" "outputs" "[LWordTongue$Stream;") ∈ lw_all := lw_g (lw_at lw_m5 53 rfl) rfl
theorem q1268 : (Jvm.Cond.fieldLink "WordTongue" (238 : Nat) "WordTongue" "input" "LWordTongue$Stream;") ∈ lw_all := lw_g (lw_at lw_m5 54 rfl) rfl
theorem q1269 : (Jvm.Cond.fieldLink "WordTongue" (242 : Nat) "WordTongue" "output" "LWordTongue$Stream;") ∈ lw_all := lw_g (lw_at lw_m5 55 rfl) rfl
theorem q1270 : (Jvm.Cond.fieldLink "WordTongue" (246 : Nat) "WordTongue" "store" "[I") ∈ lw_all := lw_g (lw_at lw_m5 56 rfl) rfl
theorem q1271 : (Jvm.Cond.fieldLink "WordTongue" (460 : Nat) "WordTongue" "a" "I") ∈ lw_all := lw_g (lw_at lw_m5 57 rfl) rfl
theorem q1272 : (Jvm.Cond.fieldLink "WordTongue" (532 : Nat) "WordTongue" "b" "I") ∈ lw_all := lw_g (lw_at lw_m5 58 rfl) rfl
theorem q1273 : (Jvm.Cond.fieldLink "WordTongue" (449 : Nat) "WordTongue" "p" "I") ∈ lw_all := lw_g (lw_at lw_m5 59 rfl) rfl
theorem q1274 : (Jvm.Cond.fieldLink "WordTongue" (456 : Nat) "WordTongue" "q" "I") ∈ lw_all := lw_g (lw_at lw_m5 60 rfl) rfl
theorem q1275 : (Jvm.Cond.fieldLink "WordTongue" (453 : Nat) "WordTongue" "c" "I") ∈ lw_all := lw_g (lw_at lw_m5 61 rfl) rfl
theorem q1276 : (Jvm.Cond.fieldLink "WordTongue" (249 : Nat) "WordTongue" "row" "[I") ∈ lw_all := lw_g (lw_at lw_m5 62 rfl) rfl
theorem q1277 : (Jvm.Cond.fieldLink "WordTongue" (252 : Nat) "WordTongue" "way" "[I") ∈ lw_all := lw_g (lw_at lw_m5 63 rfl) rfl
theorem q1278 : (Jvm.Cond.fieldLink "WordTongue" (255 : Nat) "WordTongue" "backs" "[I") ∈ lw_all := lw_g (lw_at lw_m5 64 rfl) rfl
theorem q1279 : (Jvm.Cond.fieldLink "WordTongue" (258 : Nat) "WordTongue" "bases" "[I") ∈ lw_all := lw_g (lw_at lw_m5 65 rfl) rfl
theorem q1280 : (Jvm.Cond.fieldLink "WordTongue" (261 : Nat) "WordTongue" "rows" "[I") ∈ lw_all := lw_g (lw_at lw_m5 66 rfl) rfl
theorem q1281 : (Jvm.Cond.fieldLink "WordTongue" (443 : Nat) "WordTongue" "deep" "I") ∈ lw_all := lw_g (lw_at lw_m5 67 rfl) rfl
theorem q1282 : (Jvm.Cond.fieldLink "WordTongue" (430 : Nat) "WordTongue" "fuel" "I") ∈ lw_all := lw_g (lw_at lw_m5 68 rfl) rfl
theorem q1283 : (Jvm.Cond.fieldLink "WordTongue" (487 : Nat) "WordTongue" "told" "I") ∈ lw_all := lw_g (lw_at lw_m5 69 rfl) rfl
theorem q1284 : (Jvm.Cond.fieldLink "WordTongue" (264 : Nat) "WordTongue" "vectors" "[I") ∈ lw_all := lw_g (lw_at lw_m5 70 rfl) rfl
theorem q1285 : (Jvm.Cond.fieldLink "WordTongue" (267 : Nat) "WordTongue" "sizes" "[I") ∈ lw_all := lw_g (lw_at lw_m5 71 rfl) rfl
theorem q1286 : (Jvm.Cond.fieldLink "WordTongue" (437 : Nat) "WordTongue" "vectorMany" "I") ∈ lw_all := lw_g (lw_at lw_m5 72 rfl) rfl
theorem q1287 : (Jvm.Cond.laysFinal "WordTongue" "WordTongue" "tape" "[B") ∈ lw_all := lw_g (lw_at lw_m5 73 rfl) rfl
theorem q1288 : (Jvm.Cond.soleField "WordTongue" "tape") ∈ lw_all := lw_g (lw_at lw_m5 74 rfl) rfl
theorem q1289 : (Jvm.Cond.lays "WordTongue" "WordTongue" "length" "I") ∈ lw_all := lw_g (lw_at lw_m5 75 rfl) rfl
theorem q1290 : (Jvm.Cond.soleField "WordTongue" "length") ∈ lw_all := lw_g (lw_at lw_m5 76 rfl) rfl
theorem q1291 : (Jvm.Cond.lays "WordTongue" "WordTongue" "fault" "I") ∈ lw_all := lw_g (lw_at lw_m5 77 rfl) rfl
theorem q1292 : (Jvm.Cond.soleField "WordTongue" "fault") ∈ lw_all := lw_g (lw_at lw_m5 78 rfl) rfl
theorem q1293 : (Jvm.Cond.laysFinal "WordTongue" "WordTongue" "loader" "LWordTongue$Loader;") ∈ lw_all := lw_g (lw_at lw_m5 79 rfl) rfl
theorem q1294 : (Jvm.Cond.soleField "WordTongue" "loader") ∈ lw_all := lw_g (lw_at lw_m5 80 rfl) rfl
theorem q1295 : (Jvm.Cond.laysFinal "WordTongue" "WordTongue" "generator" "LWordTongue$Generator;") ∈ lw_all := lw_g (lw_at lw_m5 81 rfl) rfl
theorem q1296 : (Jvm.Cond.soleField "WordTongue" "generator") ∈ lw_all := lw_g (lw_at lw_m5 82 rfl) rfl
theorem q1297 : (Jvm.Cond.laysFinal "WordTongue" "WordTongue" "better" "LWordTongue$Better;") ∈ lw_all := lw_g (lw_at lw_m5 83 rfl) rfl
theorem q1298 : (Jvm.Cond.soleField "WordTongue" "better") ∈ lw_all := lw_g (lw_at lw_m5 84 rfl) rfl
theorem q1299 : (Jvm.Cond.lays "WordTongue" "WordTongue" "code" "[I") ∈ lw_all := lw_g (lw_at lw_m5 85 rfl) rfl
theorem q1300 : (Jvm.Cond.soleField "WordTongue" "code") ∈ lw_all := lw_g (lw_at lw_m5 86 rfl) rfl
theorem q1301 : (Jvm.Cond.laysFinal "WordTongue" "WordTongue" "firsts" "[I") ∈ lw_all := lw_g (lw_at lw_m5 87 rfl) rfl
theorem q1302 : (Jvm.Cond.soleField "WordTongue" "firsts") ∈ lw_all := lw_g (lw_at lw_m5 88 rfl) rfl
theorem q1303 : (Jvm.Cond.laysFinal "WordTongue" "WordTongue" "parameters" "[I") ∈ lw_all := lw_g (lw_at lw_m5 89 rfl) rfl
theorem q1304 : (Jvm.Cond.soleField "WordTongue" "parameters") ∈ lw_all := lw_g (lw_at lw_m5 90 rfl) rfl
theorem q1305 : (Jvm.Cond.laysFinal "WordTongue" "WordTongue" "mosts" "[I") ∈ lw_all := lw_g (lw_at lw_m5 91 rfl) rfl
theorem q1306 : (Jvm.Cond.soleField "WordTongue" "mosts") ∈ lw_all := lw_g (lw_at lw_m5 92 rfl) rfl
theorem q1307 : (Jvm.Cond.laysFinal "WordTongue" "WordTongue" "keeps" "[I") ∈ lw_all := lw_g (lw_at lw_m5 93 rfl) rfl
theorem q1308 : (Jvm.Cond.soleField "WordTongue" "keeps") ∈ lw_all := lw_g (lw_at lw_m5 94 rfl) rfl
theorem q1309 : (Jvm.Cond.lays "WordTongue" "WordTongue" "routines" "I") ∈ lw_all := lw_g (lw_at lw_m5 95 rfl) rfl
theorem q1310 : (Jvm.Cond.soleField "WordTongue" "routines") ∈ lw_all := lw_g (lw_at lw_m5 96 rfl) rfl
theorem q1311 : (Jvm.Cond.lays "WordTongue" "WordTongue" "words" "I") ∈ lw_all := lw_g (lw_at lw_m5 97 rfl) rfl
theorem q1312 : (Jvm.Cond.soleField "WordTongue" "words") ∈ lw_all := lw_g (lw_at lw_m5 98 rfl) rfl
theorem q1313 : (Jvm.Cond.lays "WordTongue" "WordTongue" "start" "I") ∈ lw_all := lw_g (lw_at lw_m5 99 rfl) rfl
theorem q1314 : (Jvm.Cond.soleField "WordTongue" "start") ∈ lw_all := lw_g (lw_at lw_m5 100 rfl) rfl
theorem q1315 : (Jvm.Cond.lays "WordTongue" "WordTongue" "size" "I") ∈ lw_all := lw_g (lw_at lw_m5 101 rfl) rfl
theorem q1316 : (Jvm.Cond.soleField "WordTongue" "size") ∈ lw_all := lw_g (lw_at lw_m5 102 rfl) rfl
theorem q1317 : (Jvm.Cond.lays "WordTongue" "WordTongue" "wanted" "I") ∈ lw_all := lw_g (lw_at lw_m5 103 rfl) rfl
theorem q1318 : (Jvm.Cond.soleField "WordTongue" "wanted") ∈ lw_all := lw_g (lw_at lw_m5 104 rfl) rfl
theorem q1319 : (Jvm.Cond.laysFinal "WordTongue" "WordTongue" "data" "[I") ∈ lw_all := lw_g (lw_at lw_m5 105 rfl) rfl
theorem q1320 : (Jvm.Cond.soleField "WordTongue" "data") ∈ lw_all := lw_g (lw_at lw_m5 106 rfl) rfl
theorem q1321 : (Jvm.Cond.laysFinal "WordTongue" "WordTongue" "entries" "[I") ∈ lw_all := lw_g (lw_at lw_m5 107 rfl) rfl
theorem q1322 : (Jvm.Cond.soleField "WordTongue" "entries") ∈ lw_all := lw_g (lw_at lw_m5 108 rfl) rfl
theorem q1323 : (Jvm.Cond.laysFinal "WordTongue" "WordTongue" "library" "Ljava/util/Map;") ∈ lw_all := lw_g (lw_at lw_m5 109 rfl) rfl
theorem q1324 : (Jvm.Cond.soleField "WordTongue" "library") ∈ lw_all := lw_g (lw_at lw_m5 110 rfl) rfl
theorem q1325 : (Jvm.Cond.laysFinal "WordTongue" "WordTongue" "inputs" "[LWordTongue$Stream;") ∈ lw_all := lw_g (lw_at lw_m5 111 rfl) rfl
theorem q1326 : (Jvm.Cond.soleField "WordTongue" "inputs") ∈ lw_all := lw_g (lw_at lw_m5 112 rfl) rfl
theorem q1327 : (Jvm.Cond.laysFinal "WordTongue" "WordTongue" "outputs" "[LWordTongue$Stream;") ∈ lw_all := lw_g (lw_at lw_m5 113 rfl) rfl
theorem q1328 : (Jvm.Cond.soleField "WordTongue" "outputs") ∈ lw_all := lw_g (lw_at lw_m5 114 rfl) rfl
theorem q1329 : (Jvm.Cond.lays "WordTongue" "WordTongue" "input" "LWordTongue$Stream;") ∈ lw_all := lw_g (lw_at lw_m5 115 rfl) rfl
theorem q1330 : (Jvm.Cond.soleField "WordTongue" "input") ∈ lw_all := lw_g (lw_at lw_m5 116 rfl) rfl
theorem q1331 : (Jvm.Cond.lays "WordTongue" "WordTongue" "output" "LWordTongue$Stream;") ∈ lw_all := lw_g (lw_at lw_m5 117 rfl) rfl
theorem q1332 : (Jvm.Cond.soleField "WordTongue" "output") ∈ lw_all := lw_g (lw_at lw_m5 118 rfl) rfl
theorem q1333 : (Jvm.Cond.laysFinal "WordTongue" "WordTongue" "store" "[I") ∈ lw_all := lw_g (lw_at lw_m5 119 rfl) rfl
theorem q1334 : (Jvm.Cond.soleField "WordTongue" "store") ∈ lw_all := lw_g (lw_at lw_m5 120 rfl) rfl
theorem q1335 : (Jvm.Cond.lays "WordTongue" "WordTongue" "a" "I") ∈ lw_all := lw_g (lw_at lw_m5 121 rfl) rfl
theorem q1336 : (Jvm.Cond.soleField "WordTongue" "a") ∈ lw_all := lw_g (lw_at lw_m5 122 rfl) rfl
theorem q1337 : (Jvm.Cond.lays "WordTongue" "WordTongue" "b" "I") ∈ lw_all := lw_g (lw_at lw_m5 123 rfl) rfl
theorem q1338 : (Jvm.Cond.soleField "WordTongue" "b") ∈ lw_all := lw_g (lw_at lw_m5 124 rfl) rfl
theorem q1339 : (Jvm.Cond.lays "WordTongue" "WordTongue" "p" "I") ∈ lw_all := lw_g (lw_at lw_m5 125 rfl) rfl
theorem q1340 : (Jvm.Cond.soleField "WordTongue" "p") ∈ lw_all := lw_g (lw_at lw_m5 126 rfl) rfl
theorem q1341 : (Jvm.Cond.lays "WordTongue" "WordTongue" "q" "I") ∈ lw_all := lw_g (lw_at lw_m5 127 rfl) rfl
theorem q1342 : (Jvm.Cond.soleField "WordTongue" "q") ∈ lw_all := lw_g (lw_at lw_m5 128 rfl) rfl
theorem q1343 : (Jvm.Cond.lays "WordTongue" "WordTongue" "c" "I") ∈ lw_all := lw_g (lw_at lw_m5 129 rfl) rfl
theorem q1344 : (Jvm.Cond.soleField "WordTongue" "c") ∈ lw_all := lw_g (lw_at lw_m5 130 rfl) rfl
theorem q1345 : (Jvm.Cond.lays "WordTongue" "WordTongue" "row" "[I") ∈ lw_all := lw_g (lw_at lw_m5 131 rfl) rfl
theorem q1346 : (Jvm.Cond.soleField "WordTongue" "row") ∈ lw_all := lw_g (lw_at lw_m5 132 rfl) rfl
theorem q1347 : (Jvm.Cond.laysFinal "WordTongue" "WordTongue" "way" "[I") ∈ lw_all := lw_g (lw_at lw_m5 133 rfl) rfl
theorem q1348 : (Jvm.Cond.soleField "WordTongue" "way") ∈ lw_all := lw_g (lw_at lw_m5 134 rfl) rfl
theorem q1349 : (Jvm.Cond.laysFinal "WordTongue" "WordTongue" "backs" "[I") ∈ lw_all := lw_g (lw_at lw_m5 135 rfl) rfl
theorem q1350 : (Jvm.Cond.soleField "WordTongue" "backs") ∈ lw_all := lw_g (lw_at lw_m5 136 rfl) rfl
theorem q1351 : (Jvm.Cond.laysFinal "WordTongue" "WordTongue" "bases" "[I") ∈ lw_all := lw_g (lw_at lw_m5 137 rfl) rfl
theorem q1352 : (Jvm.Cond.soleField "WordTongue" "bases") ∈ lw_all := lw_g (lw_at lw_m5 138 rfl) rfl
theorem q1353 : (Jvm.Cond.laysFinal "WordTongue" "WordTongue" "rows" "[I") ∈ lw_all := lw_g (lw_at lw_m5 139 rfl) rfl
theorem q1354 : (Jvm.Cond.soleField "WordTongue" "rows") ∈ lw_all := lw_g (lw_at lw_m5 140 rfl) rfl
theorem q1355 : (Jvm.Cond.lays "WordTongue" "WordTongue" "deep" "I") ∈ lw_all := lw_g (lw_at lw_m5 141 rfl) rfl
theorem q1356 : (Jvm.Cond.soleField "WordTongue" "deep") ∈ lw_all := lw_g (lw_at lw_m5 142 rfl) rfl
theorem q1357 : (Jvm.Cond.lays "WordTongue" "WordTongue" "fuel" "I") ∈ lw_all := lw_g (lw_at lw_m5 143 rfl) rfl
theorem q1358 : (Jvm.Cond.soleField "WordTongue" "fuel") ∈ lw_all := lw_g (lw_at lw_m5 144 rfl) rfl
theorem q1359 : (Jvm.Cond.lays "WordTongue" "WordTongue" "told" "I") ∈ lw_all := lw_g (lw_at lw_m5 145 rfl) rfl
theorem q1360 : (Jvm.Cond.soleField "WordTongue" "told") ∈ lw_all := lw_g (lw_at lw_m5 146 rfl) rfl
theorem q1361 : (Jvm.Cond.lays "WordTongue" "WordTongue" "vectors" "[I") ∈ lw_all := lw_g (lw_at lw_m5 147 rfl) rfl
theorem q1362 : (Jvm.Cond.soleField "WordTongue" "vectors") ∈ lw_all := lw_g (lw_at lw_m5 148 rfl) rfl
theorem q1363 : (Jvm.Cond.lays "WordTongue" "WordTongue" "sizes" "[I") ∈ lw_all := lw_g (lw_at lw_m5 149 rfl) rfl
theorem q1364 : (Jvm.Cond.soleField "WordTongue" "sizes") ∈ lw_all := lw_g (lw_at lw_m5 150 rfl) rfl
theorem q1365 : (Jvm.Cond.lays "WordTongue" "WordTongue" "vectorMany" "I") ∈ lw_all := lw_g (lw_at lw_m5 151 rfl) rfl
theorem q1366 : (Jvm.Cond.soleField "WordTongue" "vectorMany") ∈ lw_all := lw_g (lw_at lw_m5 152 rfl) rfl
theorem q1367 : (Jvm.Cond.superclass "WordTongue" "java/lang/Object") ∈ lw_all := lw_g (lw_at lw_m5 153 rfl) rfl
theorem q1369 : (Jvm.Cond.instanceMethod ({ cls := "WordTongue", name := "feed", desc := "(IIIII)Z" } : Jvm.MethodName)) ∈ lw_all := lw_g (lw_at lw_m5 155 rfl) rfl
theorem q1370 : (Jvm.Cond.selects "WordTongue" ({ cls := "WordTongue", name := "feed", desc := "(IIIII)Z" } : Jvm.MethodName) ({ cls := "WordTongue", name := "feed", desc := "(IIIII)Z" } : Jvm.MethodName)) ∈ lw_all := lw_g (lw_at lw_m5 156 rfl) rfl
theorem q1371 : (Jvm.Cond.code ({ cls := "WordTongue", name := "feed", desc := "(IIIII)Z" } : Jvm.MethodName) prog_1_method_12_code (8 : Nat) (Option.some Jvm.ClassFile.FieldType.boolean)) ∈ lw_all := lw_g (lw_at lw_m5 157 rfl) rfl
theorem q1373 : (Jvm.Cond.instanceMethod ({ cls := "WordTongue", name := "end", desc := "(I)Z" } : Jvm.MethodName)) ∈ lw_all := lw_g (lw_at lw_m5 159 rfl) rfl
theorem q1374 : (Jvm.Cond.selects "WordTongue" ({ cls := "WordTongue", name := "end", desc := "(I)Z" } : Jvm.MethodName) ({ cls := "WordTongue", name := "end", desc := "(I)Z" } : Jvm.MethodName)) ∈ lw_all := lw_g (lw_at lw_m5 160 rfl) rfl
theorem q1375 : (Jvm.Cond.code ({ cls := "WordTongue", name := "end", desc := "(I)Z" } : Jvm.MethodName) prog_1_method_13_code (2 : Nat) (Option.some Jvm.ClassFile.FieldType.boolean)) ∈ lw_all := lw_g (lw_at lw_m5 161 rfl) rfl
theorem q1377 : (Jvm.Cond.instanceMethod ({ cls := "WordTongue", name := "store", desc := "(I)Z" } : Jvm.MethodName)) ∈ lw_all := lw_g (lw_at lw_m5 163 rfl) rfl
theorem q1378 : (Jvm.Cond.selects "WordTongue" ({ cls := "WordTongue", name := "store", desc := "(I)Z" } : Jvm.MethodName) ({ cls := "WordTongue", name := "store", desc := "(I)Z" } : Jvm.MethodName)) ∈ lw_all := lw_g (lw_at lw_m5 164 rfl) rfl
theorem q1379 : (Jvm.Cond.code ({ cls := "WordTongue", name := "store", desc := "(I)Z" } : Jvm.MethodName) prog_1_method_14_code (2 : Nat) (Option.some Jvm.ClassFile.FieldType.boolean)) ∈ lw_all := lw_g (lw_at lw_m5 165 rfl) rfl
theorem q1380 : (Jvm.Cond.methodLink "WordTongue" (302 : Nat) ({ cls := "java/lang/Integer", name := "bitCount", desc := "(I)I" } : Jvm.MethodName)) ∈ lw_all := lw_g (lw_at lw_m5 166 rfl) rfl
theorem q1387 : (Jvm.Cond.instanceMethod ({ cls := "WordTongue", name := "compile", desc := "()I" } : Jvm.MethodName)) ∈ lw_all := lw_g (lw_at lw_m5 173 rfl) rfl
theorem q1388 : (Jvm.Cond.selects "WordTongue" ({ cls := "WordTongue", name := "compile", desc := "()I" } : Jvm.MethodName) ({ cls := "WordTongue", name := "compile", desc := "()I" } : Jvm.MethodName)) ∈ lw_all := lw_g (lw_at lw_m5 174 rfl) rfl
theorem q1389 : (Jvm.Cond.codeWith ({ cls := "WordTongue", name := "compile", desc := "()I" } : Jvm.MethodName) prog_1_method_15_code (5 : Nat) (Option.some Jvm.ClassFile.FieldType.int) [((83 : Nat), (127 : Nat), (130 : Nat), (343 : Nat))]) ∈ lw_all := lw_g (lw_at lw_m5 175 rfl) rfl
theorem q1390 : (Jvm.Cond.classLink "WordTongue" (343 : Nat) "WordTongue$Misread") ∈ lw_all := lw_g (lw_at lw_m5 176 rfl) rfl
theorem q1391 : (Jvm.Cond.classLink "WordTongue" (311 : Nat) "WordTongue$Translator") ∈ lw_all := lw_g (lw_at lw_m5 177 rfl) rfl
theorem q1393 : (Jvm.Cond.methodLink "WordTongue" (313 : Nat) ({ cls := "WordTongue$Translator", name := "<init>", desc := "([I[ILjava/util/Map;)V" } : Jvm.MethodName)) ∈ lw_all := lw_g (lw_at lw_m5 179 rfl) rfl
theorem q1469 : (Jvm.Cond.fieldLink "WordTongue" (357 : Nat) "WordTongue$Translator" "routines" "Ljava/util/List;") ∈ lw_all := lw_g (lw_at lw_m6 15 rfl) rfl
theorem q1472 : (Jvm.Cond.fieldLink "WordTongue" (395 : Nat) "WordTongue$Translator" "words" "I") ∈ lw_all := lw_g (lw_at lw_m6 18 rfl) rfl
theorem q1474 : (Jvm.Cond.fieldLink "WordTongue" (349 : Nat) "WordTongue$Translator" "place" "I") ∈ lw_all := lw_g (lw_at lw_m6 20 rfl) rfl
theorem q1476 : (Jvm.Cond.fieldLink "WordTongue" (350 : Nat) "WordTongue$Translator" "fault" "I") ∈ lw_all := lw_g (lw_at lw_m6 22 rfl) rfl
theorem q1478 : (Jvm.Cond.fieldLink "WordTongue" (396 : Nat) "WordTongue$Translator" "start" "I") ∈ lw_all := lw_g (lw_at lw_m6 24 rfl) rfl
theorem q1521 : (Jvm.Cond.classLink "WordTongue" (316 : Nat) "WordTongue$Lexer") ∈ lw_all := lw_g (lw_at lw_m6 67 rfl) rfl
theorem q1523 : (Jvm.Cond.methodLink "WordTongue" (318 : Nat) ({ cls := "WordTongue$Lexer", name := "<init>", desc := "([BI)V" } : Jvm.MethodName)) ∈ lw_all := lw_g (lw_at lw_m6 69 rfl) rfl
theorem q1559 : (Jvm.Cond.fieldLink "WordTongue" (326 : Nat) "WordTongue$Lexer" "tokens" "Ljava/util/List;") ∈ lw_all := lw_g (lw_at lw_m6 105 rfl) rfl
theorem q1574 : (Jvm.Cond.methodLink "WordTongue" (321 : Nat) ({ cls := "WordTongue$Lexer", name := "all", desc := "()V" } : Jvm.MethodName)) ∈ lw_all := lw_g (lw_at lw_m6 120 rfl) rfl
theorem q1596 : (Jvm.Cond.static ({ cls := "WordTongue", name := "levelOf", desc := "(Ljava/lang/String;)I" } : Jvm.MethodName)) ∈ lw_all := lw_g (lw_at lw_m6 142 rfl) rfl
theorem q1597 : (Jvm.Cond.code ({ cls := "WordTongue", name := "levelOf", desc := "(Ljava/lang/String;)I" } : Jvm.MethodName) prog_1_method_1_code (3 : Nat) (Option.some Jvm.ClassFile.FieldType.int)) ∈ lw_all := lw_g (lw_at lw_m6 143 rfl) rfl
theorem q1598 : (Jvm.Cond.methodLink "WordTongue" (1 : Nat) ({ cls := "java/lang/String", name := "hashCode", desc := "()I" } : Jvm.MethodName)) ∈ lw_all := lw_g (lw_at lw_m6 144 rfl) rfl
theorem q1599 : (Jvm.Cond.stringRef "WordTongue" (7 : Nat) "EQV") ∈ lw_tbl := lw_at lw_m6 145 rfl
theorem q1600 : (Jvm.Cond.methodLink "WordTongue" (9 : Nat) ({ cls := "java/lang/String", name := "equals", desc := "(Ljava/lang/Object;)Z" } : Jvm.MethodName)) ∈ lw_all := lw_g (lw_at lw_m6 146 rfl) rfl
theorem q1601 : (Jvm.Cond.stringRef "WordTongue" (13 : Nat) "NEQV") ∈ lw_tbl := lw_at lw_m6 147 rfl
theorem q1602 : (Jvm.Cond.stringRef "WordTongue" (15 : Nat) "|") ∈ lw_tbl := lw_at lw_m6 148 rfl
theorem q1603 : (Jvm.Cond.stringRef "WordTongue" (17 : Nat) "&") ∈ lw_tbl := lw_at lw_m6 149 rfl
theorem q1604 : (Jvm.Cond.stringRef "WordTongue" (19 : Nat) "<<") ∈ lw_tbl := lw_at lw_m6 150 rfl
theorem q1605 : (Jvm.Cond.stringRef "WordTongue" (21 : Nat) ">>") ∈ lw_tbl := lw_at lw_m6 151 rfl
theorem q1606 : (Jvm.Cond.stringRef "WordTongue" (23 : Nat) "=") ∈ lw_tbl := lw_at lw_m6 152 rfl
theorem q1607 : (Jvm.Cond.stringRef "WordTongue" (25 : Nat) "~=") ∈ lw_tbl := lw_at lw_m6 153 rfl
theorem q1608 : (Jvm.Cond.stringRef "WordTongue" (27 : Nat) "<") ∈ lw_tbl := lw_at lw_m6 154 rfl
theorem q1609 : (Jvm.Cond.stringRef "WordTongue" (29 : Nat) "<=") ∈ lw_tbl := lw_at lw_m6 155 rfl
theorem q1610 : (Jvm.Cond.stringRef "WordTongue" (31 : Nat) ">") ∈ lw_tbl := lw_at lw_m6 156 rfl
theorem q1611 : (Jvm.Cond.stringRef "WordTongue" (33 : Nat) ">=") ∈ lw_tbl := lw_at lw_m6 157 rfl
theorem q1612 : (Jvm.Cond.stringRef "WordTongue" (35 : Nat) "+") ∈ lw_tbl := lw_at lw_m6 158 rfl
theorem q1613 : (Jvm.Cond.stringRef "WordTongue" (37 : Nat) "-") ∈ lw_tbl := lw_at lw_m6 159 rfl
theorem q1614 : (Jvm.Cond.stringRef "WordTongue" (39 : Nat) "*") ∈ lw_tbl := lw_at lw_m6 160 rfl
theorem q1615 : (Jvm.Cond.stringRef "WordTongue" (41 : Nat) "/") ∈ lw_tbl := lw_at lw_m6 161 rfl
theorem q1616 : (Jvm.Cond.stringRef "WordTongue" (43 : Nat) "REM") ∈ lw_tbl := lw_at lw_m6 162 rfl
theorem q1788 : (Jvm.Cond.fieldLink "WordTongue" (346 : Nat) "WordTongue$Misread" "place" "I") ∈ lw_all := lw_g (lw_at lw_m7 94 rfl) rfl
theorem q1790 : (Jvm.Cond.fieldLink "WordTongue" (345 : Nat) "WordTongue$Misread" "fault" "I") ∈ lw_all := lw_g (lw_at lw_m7 96 rfl) rfl
theorem q1829 : (Jvm.Cond.static ({ cls := "WordTongue", name := "isKeyword", desc := "(Ljava/lang/String;)Z" } : Jvm.MethodName)) ∈ lw_all := lw_g (lw_at lw_m7 135 rfl) rfl
theorem q1830 : (Jvm.Cond.code ({ cls := "WordTongue", name := "isKeyword", desc := "(Ljava/lang/String;)Z" } : Jvm.MethodName) prog_1_method_4_code (3 : Nat) (Option.some Jvm.ClassFile.FieldType.boolean)) ∈ lw_all := lw_g (lw_at lw_m7 136 rfl) rfl
theorem q1831 : (Jvm.Cond.stringRef "WordTongue" (107 : Nat) "NOT") ∈ lw_tbl := lw_at lw_m7 137 rfl
theorem q1832 : (Jvm.Cond.stringRef "WordTongue" (109 : Nat) "AND") ∈ lw_tbl := lw_at lw_m7 138 rfl
theorem q1833 : (Jvm.Cond.stringRef "WordTongue" (111 : Nat) "BE") ∈ lw_tbl := lw_at lw_m7 139 rfl
theorem q1834 : (Jvm.Cond.stringRef "WordTongue" (113 : Nat) "VEC") ∈ lw_tbl := lw_at lw_m7 140 rfl
theorem q1835 : (Jvm.Cond.stringRef "WordTongue" (115 : Nat) "GET") ∈ lw_tbl := lw_at lw_m7 141 rfl
theorem q1836 : (Jvm.Cond.stringRef "WordTongue" (97 : Nat) "GOTO") ∈ lw_tbl := lw_at lw_m7 142 rfl
theorem q1837 : (Jvm.Cond.stringRef "WordTongue" (117 : Nat) "DO") ∈ lw_tbl := lw_at lw_m7 143 rfl
theorem q1838 : (Jvm.Cond.stringRef "WordTongue" (119 : Nat) "THEN") ∈ lw_tbl := lw_at lw_m7 144 rfl
theorem q1839 : (Jvm.Cond.stringRef "WordTongue" (121 : Nat) "OR") ∈ lw_tbl := lw_at lw_m7 145 rfl
theorem q1840 : (Jvm.Cond.stringRef "WordTongue" (123 : Nat) "ELSE") ∈ lw_tbl := lw_at lw_m7 146 rfl
theorem q1841 : (Jvm.Cond.stringRef "WordTongue" (125 : Nat) "TO") ∈ lw_tbl := lw_at lw_m7 147 rfl
theorem q1842 : (Jvm.Cond.stringRef "WordTongue" (127 : Nat) "BY") ∈ lw_tbl := lw_at lw_m7 148 rfl
theorem q1843 : (Jvm.Cond.stringRef "WordTongue" (129 : Nat) "INTO") ∈ lw_tbl := lw_at lw_m7 149 rfl
theorem q1844 : (Jvm.Cond.stringRef "WordTongue" (131 : Nat) "REPEAT") ∈ lw_tbl := lw_at lw_m7 150 rfl
theorem q1845 : (Jvm.Cond.stringRef "WordTongue" (133 : Nat) "REPEATWHILE") ∈ lw_tbl := lw_at lw_m7 151 rfl
theorem q1846 : (Jvm.Cond.stringRef "WordTongue" (135 : Nat) "REPEATUNTIL") ∈ lw_tbl := lw_at lw_m7 152 rfl
theorem q1847 : (Jvm.Cond.methodLink "WordTongue" (141 : Nat) ({ cls := "WordTongue", name := "begins", desc := "(Ljava/lang/String;)Z" } : Jvm.MethodName)) ∈ lw_all := lw_g (lw_at lw_m7 153 rfl) rfl
theorem q1848 : (Jvm.Cond.static ({ cls := "WordTongue", name := "begins", desc := "(Ljava/lang/String;)Z" } : Jvm.MethodName)) ∈ lw_all := lw_g (lw_at lw_m7 154 rfl) rfl
theorem q1849 : (Jvm.Cond.code ({ cls := "WordTongue", name := "begins", desc := "(Ljava/lang/String;)Z" } : Jvm.MethodName) prog_1_method_3_code (3 : Nat) (Option.some Jvm.ClassFile.FieldType.boolean)) ∈ lw_all := lw_g (lw_at lw_m7 155 rfl) rfl
theorem q1850 : (Jvm.Cond.stringRef "WordTongue" (65 : Nat) "(") ∈ lw_tbl := lw_at lw_m7 156 rfl
theorem q1851 : (Jvm.Cond.stringRef "WordTongue" (67 : Nat) "!") ∈ lw_tbl := lw_at lw_m7 157 rfl
theorem q1852 : (Jvm.Cond.stringRef "WordTongue" (69 : Nat) "@") ∈ lw_tbl := lw_at lw_m7 158 rfl
theorem q1853 : (Jvm.Cond.stringRef "WordTongue" (71 : Nat) "$(") ∈ lw_tbl := lw_at lw_m7 159 rfl
theorem q1854 : (Jvm.Cond.stringRef "WordTongue" (51 : Nat) "TRUE") ∈ lw_tbl := lw_at lw_m7 160 rfl
theorem q1855 : (Jvm.Cond.stringRef "WordTongue" (53 : Nat) "FALSE") ∈ lw_tbl := lw_at lw_m7 161 rfl
theorem q1856 : (Jvm.Cond.stringRef "WordTongue" (73 : Nat) "VALOF") ∈ lw_tbl := lw_at lw_m7 162 rfl
theorem q1857 : (Jvm.Cond.stringRef "WordTongue" (75 : Nat) "TABLE") ∈ lw_tbl := lw_at lw_m7 163 rfl
theorem q1858 : (Jvm.Cond.stringRef "WordTongue" (77 : Nat) "IF") ∈ lw_tbl := lw_at lw_m7 164 rfl
theorem q1859 : (Jvm.Cond.stringRef "WordTongue" (79 : Nat) "UNLESS") ∈ lw_tbl := lw_at lw_m7 165 rfl
theorem q1860 : (Jvm.Cond.stringRef "WordTongue" (81 : Nat) "TEST") ∈ lw_tbl := lw_at lw_m7 166 rfl
theorem q1861 : (Jvm.Cond.stringRef "WordTongue" (83 : Nat) "WHILE") ∈ lw_tbl := lw_at lw_m7 167 rfl
theorem q1862 : (Jvm.Cond.stringRef "WordTongue" (85 : Nat) "UNTIL") ∈ lw_tbl := lw_at lw_m7 168 rfl
theorem q1863 : (Jvm.Cond.stringRef "WordTongue" (87 : Nat) "FOR") ∈ lw_tbl := lw_at lw_m7 169 rfl
theorem q1864 : (Jvm.Cond.stringRef "WordTongue" (89 : Nat) "SWITCHON") ∈ lw_tbl := lw_at lw_m7 170 rfl
theorem q1865 : (Jvm.Cond.stringRef "WordTongue" (91 : Nat) "CASE") ∈ lw_tbl := lw_at lw_m7 171 rfl
theorem q1866 : (Jvm.Cond.stringRef "WordTongue" (93 : Nat) "DEFAULT") ∈ lw_tbl := lw_at lw_m7 172 rfl
theorem q1867 : (Jvm.Cond.stringRef "WordTongue" (55 : Nat) "BREAK") ∈ lw_tbl := lw_at lw_m7 173 rfl
theorem q1868 : (Jvm.Cond.stringRef "WordTongue" (57 : Nat) "LOOP") ∈ lw_tbl := lw_at lw_m7 174 rfl
theorem q1869 : (Jvm.Cond.stringRef "WordTongue" (59 : Nat) "ENDCASE") ∈ lw_tbl := lw_at lw_m7 175 rfl
theorem q1870 : (Jvm.Cond.stringRef "WordTongue" (61 : Nat) "RETURN") ∈ lw_tbl := lw_at lw_m7 176 rfl
theorem q1871 : (Jvm.Cond.stringRef "WordTongue" (95 : Nat) "RESULTIS") ∈ lw_tbl := lw_at lw_m7 177 rfl
theorem q1872 : (Jvm.Cond.stringRef "WordTongue" (63 : Nat) "FINISH") ∈ lw_tbl := lw_at lw_m7 178 rfl
theorem q1873 : (Jvm.Cond.stringRef "WordTongue" (99 : Nat) "LET") ∈ lw_tbl := lw_at lw_m7 179 rfl
theorem q1874 : (Jvm.Cond.stringRef "WordTongue" (101 : Nat) "GLOBAL") ∈ lw_tbl := lw_at lw_m7 180 rfl
theorem q1875 : (Jvm.Cond.stringRef "WordTongue" (103 : Nat) "MANIFEST") ∈ lw_tbl := lw_at lw_m7 181 rfl
theorem q1876 : (Jvm.Cond.stringRef "WordTongue" (105 : Nat) "STATIC") ∈ lw_tbl := lw_at lw_m7 182 rfl
theorem q1877 : (Jvm.Cond.methodLink "WordTongue" (145 : Nat) ({ cls := "WordTongue", name := "ends", desc := "(Ljava/lang/String;)Z" } : Jvm.MethodName)) ∈ lw_all := lw_g (lw_at lw_m7 183 rfl) rfl
theorem q1878 : (Jvm.Cond.static ({ cls := "WordTongue", name := "ends", desc := "(Ljava/lang/String;)Z" } : Jvm.MethodName)) ∈ lw_all := lw_g (lw_at lw_m7 184 rfl) rfl
theorem q1879 : (Jvm.Cond.code ({ cls := "WordTongue", name := "ends", desc := "(Ljava/lang/String;)Z" } : Jvm.MethodName) prog_1_method_2_code (3 : Nat) (Option.some Jvm.ClassFile.FieldType.boolean)) ∈ lw_all := lw_g (lw_at lw_m7 185 rfl) rfl
theorem q1880 : (Jvm.Cond.stringRef "WordTongue" (47 : Nat) "$)") ∈ lw_tbl := lw_at lw_m7 186 rfl
theorem q1881 : (Jvm.Cond.stringRef "WordTongue" (49 : Nat) ")") ∈ lw_tbl := lw_at lw_m7 187 rfl
theorem q2025 : (Jvm.Cond.classLink "WordTongue" (324 : Nat) "WordTongue$Parser") ∈ lw_all := lw_g (lw_at lw_m8 91 rfl) rfl
theorem q2027 : (Jvm.Cond.methodLink "WordTongue" (330 : Nat) ({ cls := "WordTongue$Parser", name := "<init>", desc := "(Ljava/util/List;)V" } : Jvm.MethodName)) ∈ lw_all := lw_g (lw_at lw_m8 93 rfl) rfl
theorem q2052 : (Jvm.Cond.fieldLink "WordTongue" (337 : Nat) "WordTongue$Parser" "items" "Ljava/util/List;") ∈ lw_all := lw_g (lw_at lw_m8 118 rfl) rfl
theorem q2068 : (Jvm.Cond.methodLink "WordTongue" (333 : Nat) ({ cls := "WordTongue$Parser", name := "text", desc := "()Ljava/util/List;" } : Jvm.MethodName)) ∈ lw_all := lw_g (lw_at lw_m8 134 rfl) rfl
theorem q2551 : (Jvm.Cond.methodLink "WordTongue" (340 : Nat) ({ cls := "WordTongue$Translator", name := "text", desc := "(Ljava/util/List;Ljava/util/List;)V" } : Jvm.MethodName)) ∈ lw_all := lw_g (lw_at lw_m10 137 rfl) rfl
theorem q2588 : (Jvm.Cond.fieldLink "WordTongue" (390 : Nat) "WordTongue$Routine" "parameters" "I") ∈ lw_all := lw_g (lw_at lw_m10 174 rfl) rfl
theorem q2594 : (Jvm.Cond.fieldLink "WordTongue" (392 : Nat) "WordTongue$Routine" "most" "I") ∈ lw_all := lw_g (lw_at lw_m10 180 rfl) rfl
theorem q2708 : (Jvm.Cond.static ({ cls := "WordTongue", name := "operatorOf", desc := "(Ljava/lang/String;)I" } : Jvm.MethodName)) ∈ lw_all := lw_g (lw_at lw_m11 54 rfl) rfl
theorem q2709 : (Jvm.Cond.code ({ cls := "WordTongue", name := "operatorOf", desc := "(Ljava/lang/String;)I" } : Jvm.MethodName) prog_1_method_5_code (3 : Nat) (Option.some Jvm.ClassFile.FieldType.int)) ∈ lw_all := lw_g (lw_at lw_m11 55 rfl) rfl
theorem q2730 : (Jvm.Cond.static ({ cls := "WordTongue", name := "relationOf", desc := "(Ljava/lang/String;)I" } : Jvm.MethodName)) ∈ lw_all := lw_g (lw_at lw_m11 76 rfl) rfl
theorem q2731 : (Jvm.Cond.code ({ cls := "WordTongue", name := "relationOf", desc := "(Ljava/lang/String;)I" } : Jvm.MethodName) prog_1_method_6_code (3 : Nat) (Option.some Jvm.ClassFile.FieldType.int)) ∈ lw_all := lw_g (lw_at lw_m11 77 rfl) rfl
theorem q2780 : (Jvm.Cond.static ({ cls := "WordTongue", name := "holds", desc := "(III)Z" } : Jvm.MethodName)) ∈ lw_all := lw_g (lw_at lw_m11 126 rfl) rfl
theorem q2781 : (Jvm.Cond.code ({ cls := "WordTongue", name := "holds", desc := "(III)Z" } : Jvm.MethodName) prog_1_method_9_code (3 : Nat) (Option.some Jvm.ClassFile.FieldType.boolean)) ∈ lw_all := lw_g (lw_at lw_m11 127 rfl) rfl
theorem q2783 : (Jvm.Cond.static ({ cls := "WordTongue", name := "operated", desc := "(III)I" } : Jvm.MethodName)) ∈ lw_all := lw_g (lw_at lw_m11 129 rfl) rfl
theorem q2784 : (Jvm.Cond.code ({ cls := "WordTongue", name := "operated", desc := "(III)I" } : Jvm.MethodName) prog_1_method_8_code (3 : Nat) (Option.some Jvm.ClassFile.FieldType.int)) ∈ lw_all := lw_g (lw_at lw_m11 130 rfl) rfl
theorem q2785 : (Jvm.Cond.methodLink "WordTongue" (148 : Nat) ({ cls := "WordTongue", name := "shifted", desc := "(IIZ)I" } : Jvm.MethodName)) ∈ lw_all := lw_g (lw_at lw_m11 131 rfl) rfl
theorem q2786 : (Jvm.Cond.static ({ cls := "WordTongue", name := "shifted", desc := "(IIZ)I" } : Jvm.MethodName)) ∈ lw_all := lw_g (lw_at lw_m11 132 rfl) rfl
theorem q2787 : (Jvm.Cond.code ({ cls := "WordTongue", name := "shifted", desc := "(IIZ)I" } : Jvm.MethodName) prog_1_method_7_code (3 : Nat) (Option.some Jvm.ClassFile.FieldType.int)) ∈ lw_all := lw_g (lw_at lw_m11 133 rfl) rfl
theorem q2896 : (Jvm.Cond.methodLink "WordTongue" (351 : Nat) ({ cls := "WordTongue", name := "lays", desc := "(LWordTongue$Translator;)V" } : Jvm.MethodName)) ∈ lw_all := lw_g (lw_at lw_m12 2 rfl) rfl
theorem q2897 : (Jvm.Cond.privateMethod ({ cls := "WordTongue", name := "lays", desc := "(LWordTongue$Translator;)V" } : Jvm.MethodName)) ∈ lw_tbl := lw_at lw_m12 3 rfl
theorem q2898 : (Jvm.Cond.instanceMethod ({ cls := "WordTongue", name := "lays", desc := "(LWordTongue$Translator;)V" } : Jvm.MethodName)) ∈ lw_all := lw_g (lw_at lw_m12 4 rfl) rfl
theorem q2899 : (Jvm.Cond.code ({ cls := "WordTongue", name := "lays", desc := "(LWordTongue$Translator;)V" } : Jvm.MethodName) prog_1_method_16_code (4 : Nat) (Option.none : Option Jvm.ClassFile.FieldType)) ∈ lw_all := lw_g (lw_at lw_m12 5 rfl) rfl
theorem q2900 : (Jvm.Cond.interfaceEntry "WordTongue" (360 : Nat)) ∈ lw_tbl := lw_at lw_m12 6 rfl
theorem q2901 : (Jvm.Cond.methodLink "WordTongue" (360 : Nat) ({ cls := "java/util/List", name := "size", desc := "()I" } : Jvm.MethodName)) ∈ lw_all := lw_g (lw_at lw_m12 7 rfl) rfl
theorem q2902 : (Jvm.Cond.interfaceEntry "WordTongue" (369 : Nat)) ∈ lw_tbl := lw_at lw_m12 8 rfl
theorem q2903 : (Jvm.Cond.methodLink "WordTongue" (369 : Nat) ({ cls := "java/util/List", name := "get", desc := "(I)Ljava/lang/Object;" } : Jvm.MethodName)) ∈ lw_all := lw_g (lw_at lw_m12 9 rfl) rfl
theorem q2904 : (Jvm.Cond.classLink "WordTongue" (373 : Nat) "WordTongue$Routine") ∈ lw_all := lw_g (lw_at lw_m12 10 rfl) rfl
theorem q2905 : (Jvm.Cond.methodLink "WordTongue" (375 : Nat) ({ cls := "WordTongue$Better", name := "all", desc := "(LWordTongue$Routine;)V" } : Jvm.MethodName)) ∈ lw_all := lw_g (lw_at lw_m12 11 rfl) rfl
theorem q2940 : (Jvm.Cond.methodLink "WordTongue" (378 : Nat) ({ cls := "WordTongue$Generator", name := "make", desc := "(LWordTongue$Routine;)I" } : Jvm.MethodName)) ∈ lw_all := lw_g (lw_at lw_m12 46 rfl) rfl
theorem q3083 : (Jvm.Cond.methodLink "WordTongue" (386 : Nat) ({ cls := "WordTongue$Loader", name := "load", desc := "(LWordTongue$Row;)I" } : Jvm.MethodName)) ∈ lw_all := lw_g (lw_at lw_m12 189 rfl) rfl
theorem q3109 : (Jvm.Cond.instanceMethod ({ cls := "WordTongue", name := "fault", desc := "()I" } : Jvm.MethodName)) ∈ lw_all := lw_g (lw_at lw_m12 215 rfl) rfl
theorem q3110 : (Jvm.Cond.selects "WordTongue" ({ cls := "WordTongue", name := "fault", desc := "()I" } : Jvm.MethodName) ({ cls := "WordTongue", name := "fault", desc := "()I" } : Jvm.MethodName)) ∈ lw_all := lw_g (lw_at lw_m12 216 rfl) rfl
theorem q3111 : (Jvm.Cond.code ({ cls := "WordTongue", name := "fault", desc := "()I" } : Jvm.MethodName) prog_1_method_17_code (1 : Nat) (Option.some Jvm.ClassFile.FieldType.int)) ∈ lw_all := lw_g (lw_at lw_m12 217 rfl) rfl
theorem q3113 : (Jvm.Cond.instanceMethod ({ cls := "WordTongue", name := "input", desc := "(I)I" } : Jvm.MethodName)) ∈ lw_all := lw_g (lw_at lw_m12 219 rfl) rfl
theorem q3114 : (Jvm.Cond.selects "WordTongue" ({ cls := "WordTongue", name := "input", desc := "(I)I" } : Jvm.MethodName) ({ cls := "WordTongue", name := "input", desc := "(I)I" } : Jvm.MethodName)) ∈ lw_all := lw_g (lw_at lw_m12 220 rfl) rfl
theorem q3115 : (Jvm.Cond.code ({ cls := "WordTongue", name := "input", desc := "(I)I" } : Jvm.MethodName) prog_1_method_18_code (3 : Nat) (Option.some Jvm.ClassFile.FieldType.int)) ∈ lw_all := lw_g (lw_at lw_m12 221 rfl) rfl
theorem q3116 : (Jvm.Cond.methodLink "WordTongue" (400 : Nat) ({ cls := "java/lang/System", name := "arraycopy", desc := "(Ljava/lang/Object;ILjava/lang/Object;II)V" } : Jvm.MethodName)) ∈ lw_all := lw_g (lw_at lw_m12 222 rfl) rfl
theorem q3117 : (Jvm.Cond.methodLink "WordTongue" (406 : Nat) ({ cls := "WordTongue$Stream", name := "begin", desc := "(I)V" } : Jvm.MethodName)) ∈ lw_all := lw_g (lw_at lw_m12 223 rfl) rfl
theorem q3122 : (Jvm.Cond.instanceMethod ({ cls := "WordTongue", name := "run", desc := "(I)I" } : Jvm.MethodName)) ∈ lw_all := lw_g (lw_at lw_m12 228 rfl) rfl
theorem q3123 : (Jvm.Cond.selects "WordTongue" ({ cls := "WordTongue", name := "run", desc := "(I)I" } : Jvm.MethodName) ({ cls := "WordTongue", name := "run", desc := "(I)I" } : Jvm.MethodName)) ∈ lw_all := lw_g (lw_at lw_m12 229 rfl) rfl
theorem q3124 : (Jvm.Cond.codeWith ({ cls := "WordTongue", name := "run", desc := "(I)I" } : Jvm.MethodName) prog_1_method_42_code (3 : Nat) (Option.some Jvm.ClassFile.FieldType.int) [((167 : Nat), (206 : Nat), (209 : Nat), (426 : Nat))]) ∈ lw_all := lw_g (lw_at lw_m12 230 rfl) rfl
theorem q3125 : (Jvm.Cond.classLink "WordTongue" (426 : Nat) "WordTongue$Ended") ∈ lw_all := lw_g (lw_at lw_m12 231 rfl) rfl
theorem q3126 : (Jvm.Cond.constant "WordTongue" (555 : Nat) (100000 : Int32)) ∈ lw_all := lw_g (lw_at lw_m12 232 rfl) rfl
theorem q3127 : (Jvm.Cond.methodLink "WordTongue" (470 : Nat) ({ cls := "WordTongue", name := "enter", desc := "(IIII)V" } : Jvm.MethodName)) ∈ lw_all := lw_g (lw_at lw_m12 233 rfl) rfl
theorem q3128 : (Jvm.Cond.privateMethod ({ cls := "WordTongue", name := "enter", desc := "(IIII)V" } : Jvm.MethodName)) ∈ lw_tbl := lw_at lw_m12 234 rfl
theorem q3129 : (Jvm.Cond.instanceMethod ({ cls := "WordTongue", name := "enter", desc := "(IIII)V" } : Jvm.MethodName)) ∈ lw_all := lw_g (lw_at lw_m12 235 rfl) rfl
theorem q3130 : (Jvm.Cond.code ({ cls := "WordTongue", name := "enter", desc := "(IIII)V" } : Jvm.MethodName) prog_1_method_26_code (6 : Nat) (Option.none : Option Jvm.ClassFile.FieldType)) ∈ lw_all := lw_g (lw_at lw_m12 236 rfl) rfl
theorem q3131 : (Jvm.Cond.methodLink "WordTongue" (440 : Nat) ({ cls := "WordTongue", name := "spend", desc := "()V" } : Jvm.MethodName)) ∈ lw_all := lw_g (lw_at lw_m12 237 rfl) rfl
theorem q3132 : (Jvm.Cond.privateMethod ({ cls := "WordTongue", name := "spend", desc := "()V" } : Jvm.MethodName)) ∈ lw_tbl := lw_at lw_m12 238 rfl
theorem q3133 : (Jvm.Cond.instanceMethod ({ cls := "WordTongue", name := "spend", desc := "()V" } : Jvm.MethodName)) ∈ lw_all := lw_g (lw_at lw_m12 239 rfl) rfl
theorem q3134 : (Jvm.Cond.code ({ cls := "WordTongue", name := "spend", desc := "()V" } : Jvm.MethodName) prog_1_method_24_code (1 : Nat) (Option.none : Option Jvm.ClassFile.FieldType)) ∈ lw_all := lw_g (lw_at lw_m13 0 rfl) rfl
theorem q3135 : (Jvm.Cond.methodLink "WordTongue" (433 : Nat) ({ cls := "WordTongue", name := "must", desc := "(ZI)V" } : Jvm.MethodName)) ∈ lw_all := lw_g (lw_at lw_m13 1 rfl) rfl
theorem q3136 : (Jvm.Cond.static ({ cls := "WordTongue", name := "must", desc := "(ZI)V" } : Jvm.MethodName)) ∈ lw_all := lw_g (lw_at lw_m13 2 rfl) rfl
theorem q3137 : (Jvm.Cond.code ({ cls := "WordTongue", name := "must", desc := "(ZI)V" } : Jvm.MethodName) prog_1_method_22_code (2 : Nat) (Option.none : Option Jvm.ClassFile.FieldType)) ∈ lw_all := lw_g (lw_at lw_m13 3 rfl) rfl
theorem q3146 : (Jvm.Cond.methodLink "WordTongue" (428 : Nat) ({ cls := "WordTongue$Ended", name := "<init>", desc := "(I)V" } : Jvm.MethodName)) ∈ lw_all := lw_g (lw_at lw_m13 12 rfl) rfl
theorem q3151 : (Jvm.Cond.fieldLink "WordTongue" (560 : Nat) "WordTongue$Ended" "how" "I") ∈ lw_all := lw_g (lw_at lw_m13 17 rfl) rfl
theorem q3156 : (Jvm.Cond.methodLink "WordTongue" (446 : Nat) ({ cls := "WordTongue", name := "limit", desc := "()I" } : Jvm.MethodName)) ∈ lw_all := lw_g (lw_at lw_m13 22 rfl) rfl
theorem q3157 : (Jvm.Cond.privateMethod ({ cls := "WordTongue", name := "limit", desc := "()I" } : Jvm.MethodName)) ∈ lw_tbl := lw_at lw_m13 23 rfl
theorem q3158 : (Jvm.Cond.instanceMethod ({ cls := "WordTongue", name := "limit", desc := "()I" } : Jvm.MethodName)) ∈ lw_all := lw_g (lw_at lw_m13 24 rfl) rfl
theorem q3159 : (Jvm.Cond.code ({ cls := "WordTongue", name := "limit", desc := "()I" } : Jvm.MethodName) prog_1_method_25_code (1 : Nat) (Option.some Jvm.ClassFile.FieldType.int)) ∈ lw_all := lw_g (lw_at lw_m13 25 rfl) rfl
theorem q3160 : (Jvm.Cond.constant "WordTongue" (452 : Nat) (1000000 : Int32)) ∈ lw_all := lw_g (lw_at lw_m13 26 rfl) rfl
theorem q3161 : (Jvm.Cond.methodLink "WordTongue" (557 : Nat) ({ cls := "WordTongue", name := "step", desc := "()V" } : Jvm.MethodName)) ∈ lw_all := lw_g (lw_at lw_m13 27 rfl) rfl
theorem q3162 : (Jvm.Cond.privateMethod ({ cls := "WordTongue", name := "step", desc := "()V" } : Jvm.MethodName)) ∈ lw_tbl := lw_at lw_m13 28 rfl
theorem q3163 : (Jvm.Cond.instanceMethod ({ cls := "WordTongue", name := "step", desc := "()V" } : Jvm.MethodName)) ∈ lw_all := lw_g (lw_at lw_m13 29 rfl) rfl
theorem q3164 : (Jvm.Cond.code ({ cls := "WordTongue", name := "step", desc := "()V" } : Jvm.MethodName) prog_1_method_39_code (4 : Nat) (Option.none : Option Jvm.ClassFile.FieldType)) ∈ lw_all := lw_g (lw_at lw_m13 30 rfl) rfl
theorem q3165 : (Jvm.Cond.constant "WordTongue" (530 : Nat) (33554432 : Int32)) ∈ lw_all := lw_g (lw_at lw_m13 31 rfl) rfl
theorem q3166 : (Jvm.Cond.constant "WordTongue" (531 : Nat) (67108864 : Int32)) ∈ lw_all := lw_g (lw_at lw_m13 32 rfl) rfl
theorem q3167 : (Jvm.Cond.constant "WordTongue" (535 : Nat) (134217728 : Int32)) ∈ lw_all := lw_g (lw_at lw_m13 33 rfl) rfl
theorem q3168 : (Jvm.Cond.methodLink "WordTongue" (536 : Nat) ({ cls := "WordTongue", name := "call", desc := "(I)V" } : Jvm.MethodName)) ∈ lw_all := lw_g (lw_at lw_m13 34 rfl) rfl
theorem q3169 : (Jvm.Cond.privateMethod ({ cls := "WordTongue", name := "call", desc := "(I)V" } : Jvm.MethodName)) ∈ lw_tbl := lw_at lw_m13 35 rfl
theorem q3170 : (Jvm.Cond.instanceMethod ({ cls := "WordTongue", name := "call", desc := "(I)V" } : Jvm.MethodName)) ∈ lw_all := lw_g (lw_at lw_m13 36 rfl) rfl
theorem q3171 : (Jvm.Cond.code ({ cls := "WordTongue", name := "call", desc := "(I)V" } : Jvm.MethodName) prog_1_method_29_code (6 : Nat) (Option.none : Option Jvm.ClassFile.FieldType)) ∈ lw_all := lw_g (lw_at lw_m13 37 rfl) rfl
theorem q3172 : (Jvm.Cond.methodLink "WordTongue" (463 : Nat) ({ cls := "WordTongue", name := "isEntry", desc := "(I)Z" } : Jvm.MethodName)) ∈ lw_all := lw_g (lw_at lw_m13 38 rfl) rfl
theorem q3173 : (Jvm.Cond.privateMethod ({ cls := "WordTongue", name := "isEntry", desc := "(I)Z" } : Jvm.MethodName)) ∈ lw_tbl := lw_at lw_m13 39 rfl
theorem q3174 : (Jvm.Cond.instanceMethod ({ cls := "WordTongue", name := "isEntry", desc := "(I)Z" } : Jvm.MethodName)) ∈ lw_all := lw_g (lw_at lw_m13 40 rfl) rfl
theorem q3175 : (Jvm.Cond.code ({ cls := "WordTongue", name := "isEntry", desc := "(I)Z" } : Jvm.MethodName) prog_1_method_27_code (2 : Nat) (Option.some Jvm.ClassFile.FieldType.boolean)) ∈ lw_all := lw_g (lw_at lw_m13 41 rfl) rfl
theorem q3176 : (Jvm.Cond.methodLink "WordTongue" (467 : Nat) ({ cls := "WordTongue", name := "isLibrary", desc := "(I)Z" } : Jvm.MethodName)) ∈ lw_all := lw_g (lw_at lw_m13 42 rfl) rfl
theorem q3177 : (Jvm.Cond.static ({ cls := "WordTongue", name := "isLibrary", desc := "(I)Z" } : Jvm.MethodName)) ∈ lw_all := lw_g (lw_at lw_m13 43 rfl) rfl
theorem q3178 : (Jvm.Cond.code ({ cls := "WordTongue", name := "isLibrary", desc := "(I)Z" } : Jvm.MethodName) prog_1_method_28_code (1 : Nat) (Option.some Jvm.ClassFile.FieldType.boolean)) ∈ lw_all := lw_g (lw_at lw_m13 44 rfl) rfl
theorem q3179 : (Jvm.Cond.constant "WordTongue" (459 : Nat) (2000017 : Int32)) ∈ lw_all := lw_g (lw_at lw_m13 45 rfl) rfl
theorem q3180 : (Jvm.Cond.methodLink "WordTongue" (474 : Nat) ({ cls := "WordTongue", name := "library", desc := "(IIII)V" } : Jvm.MethodName)) ∈ lw_all := lw_g (lw_at lw_m13 46 rfl) rfl
theorem q3181 : (Jvm.Cond.privateMethod ({ cls := "WordTongue", name := "library", desc := "(IIII)V" } : Jvm.MethodName)) ∈ lw_tbl := lw_at lw_m13 47 rfl
theorem q3182 : (Jvm.Cond.instanceMethod ({ cls := "WordTongue", name := "library", desc := "(IIII)V" } : Jvm.MethodName)) ∈ lw_all := lw_g (lw_at lw_m13 48 rfl) rfl
theorem q3183 : (Jvm.Cond.code ({ cls := "WordTongue", name := "library", desc := "(IIII)V" } : Jvm.MethodName) prog_1_method_32_code (8 : Nat) (Option.none : Option Jvm.ClassFile.FieldType)) ∈ lw_all := lw_g (lw_at lw_m13 49 rfl) rfl
theorem q3184 : (Jvm.Cond.methodLink "WordTongue" (476 : Nat) ({ cls := "WordTongue", name := "argument", desc := "(III)I" } : Jvm.MethodName)) ∈ lw_all := lw_g (lw_at lw_m13 50 rfl) rfl
theorem q3185 : (Jvm.Cond.privateMethod ({ cls := "WordTongue", name := "argument", desc := "(III)I" } : Jvm.MethodName)) ∈ lw_tbl := lw_at lw_m13 51 rfl
theorem q3186 : (Jvm.Cond.instanceMethod ({ cls := "WordTongue", name := "argument", desc := "(III)I" } : Jvm.MethodName)) ∈ lw_all := lw_g (lw_at lw_m13 52 rfl) rfl
theorem q3187 : (Jvm.Cond.code ({ cls := "WordTongue", name := "argument", desc := "(III)I" } : Jvm.MethodName) prog_1_method_31_code (4 : Nat) (Option.some Jvm.ClassFile.FieldType.int)) ∈ lw_all := lw_g (lw_at lw_m13 53 rfl) rfl
theorem q3188 : (Jvm.Cond.methodLink "WordTongue" (480 : Nat) ({ cls := "WordTongue", name := "decimal", desc := "(II)V" } : Jvm.MethodName)) ∈ lw_all := lw_g (lw_at lw_m13 54 rfl) rfl
theorem q3189 : (Jvm.Cond.privateMethod ({ cls := "WordTongue", name := "decimal", desc := "(II)V" } : Jvm.MethodName)) ∈ lw_tbl := lw_at lw_m13 55 rfl
theorem q3190 : (Jvm.Cond.instanceMethod ({ cls := "WordTongue", name := "decimal", desc := "(II)V" } : Jvm.MethodName)) ∈ lw_all := lw_g (lw_at lw_m13 56 rfl) rfl
theorem q3191 : (Jvm.Cond.code ({ cls := "WordTongue", name := "decimal", desc := "(II)V" } : Jvm.MethodName) prog_1_method_21_code (4 : Nat) (Option.none : Option Jvm.ClassFile.FieldType)) ∈ lw_all := lw_g (lw_at lw_m13 57 rfl) rfl
theorem q3192 : (Jvm.Cond.methodLink "WordTongue" (413 : Nat) ({ cls := "WordTongue$Stream", name := "isFull", desc := "()Z" } : Jvm.MethodName)) ∈ lw_all := lw_g (lw_at lw_m13 58 rfl) rfl
theorem q3196 : (Jvm.Cond.methodLink "WordTongue" (417 : Nat) ({ cls := "WordTongue", name := "digits", desc := "(I)I" } : Jvm.MethodName)) ∈ lw_all := lw_g (lw_at lw_m13 62 rfl) rfl
theorem q3197 : (Jvm.Cond.static ({ cls := "WordTongue", name := "digits", desc := "(I)I" } : Jvm.MethodName)) ∈ lw_all := lw_g (lw_at lw_m13 63 rfl) rfl
theorem q3198 : (Jvm.Cond.code ({ cls := "WordTongue", name := "digits", desc := "(I)I" } : Jvm.MethodName) prog_1_method_20_code (3 : Nat) (Option.some Jvm.ClassFile.FieldType.int)) ∈ lw_all := lw_g (lw_at lw_m13 64 rfl) rfl
theorem q3199 : (Jvm.Cond.methodLink "WordTongue" (420 : Nat) ({ cls := "WordTongue", name := "write", desc := "(I)V" } : Jvm.MethodName)) ∈ lw_all := lw_g (lw_at lw_m13 65 rfl) rfl
theorem q3200 : (Jvm.Cond.privateMethod ({ cls := "WordTongue", name := "write", desc := "(I)V" } : Jvm.MethodName)) ∈ lw_tbl := lw_at lw_m13 66 rfl
theorem q3201 : (Jvm.Cond.instanceMethod ({ cls := "WordTongue", name := "write", desc := "(I)V" } : Jvm.MethodName)) ∈ lw_all := lw_g (lw_at lw_m13 67 rfl) rfl
theorem q3202 : (Jvm.Cond.code ({ cls := "WordTongue", name := "write", desc := "(I)V" } : Jvm.MethodName) prog_1_method_19_code (2 : Nat) (Option.none : Option Jvm.ClassFile.FieldType)) ∈ lw_all := lw_g (lw_at lw_m13 68 rfl) rfl
theorem q3203 : (Jvm.Cond.methodLink "WordTongue" (410 : Nat) ({ cls := "WordTongue$Stream", name := "write", desc := "(I)V" } : Jvm.MethodName)) ∈ lw_all := lw_g (lw_at lw_m13 69 rfl) rfl
theorem q3207 : (Jvm.Cond.methodLink "WordTongue" (421 : Nat) ({ cls := "java/lang/Math", name := "abs", desc := "(I)I" } : Jvm.MethodName)) ∈ lw_all := lw_g (lw_at lw_m13 73 rfl) rfl
theorem q3208 : (Jvm.Cond.methodLink "WordTongue" (484 : Nat) ({ cls := "WordTongue", name := "string", desc := "(I)V" } : Jvm.MethodName)) ∈ lw_all := lw_g (lw_at lw_m13 74 rfl) rfl
theorem q3209 : (Jvm.Cond.privateMethod ({ cls := "WordTongue", name := "string", desc := "(I)V" } : Jvm.MethodName)) ∈ lw_tbl := lw_at lw_m13 75 rfl
theorem q3210 : (Jvm.Cond.instanceMethod ({ cls := "WordTongue", name := "string", desc := "(I)V" } : Jvm.MethodName)) ∈ lw_all := lw_g (lw_at lw_m13 76 rfl) rfl
theorem q3211 : (Jvm.Cond.code ({ cls := "WordTongue", name := "string", desc := "(I)V" } : Jvm.MethodName) prog_1_method_34_code (4 : Nat) (Option.none : Option Jvm.ClassFile.FieldType)) ∈ lw_all := lw_g (lw_at lw_m13 77 rfl) rfl
theorem q3212 : (Jvm.Cond.methodLink "WordTongue" (519 : Nat) ({ cls := "WordTongue", name := "isWord", desc := "(J)Z" } : Jvm.MethodName)) ∈ lw_all := lw_g (lw_at lw_m13 78 rfl) rfl
theorem q3213 : (Jvm.Cond.privateMethod ({ cls := "WordTongue", name := "isWord", desc := "(J)Z" } : Jvm.MethodName)) ∈ lw_tbl := lw_at lw_m13 79 rfl
theorem q3214 : (Jvm.Cond.instanceMethod ({ cls := "WordTongue", name := "isWord", desc := "(J)Z" } : Jvm.MethodName)) ∈ lw_all := lw_g (lw_at lw_m13 80 rfl) rfl
theorem q3215 : (Jvm.Cond.code ({ cls := "WordTongue", name := "isWord", desc := "(J)Z" } : Jvm.MethodName) prog_1_method_23_code (3 : Nat) (Option.some Jvm.ClassFile.FieldType.boolean)) ∈ lw_all := lw_g (lw_at lw_m13 81 rfl) rfl
theorem q3216 : (Jvm.Cond.methodLink "WordTongue" (490 : Nat) ({ cls := "WordTongue", name := "free", desc := "(I)V" } : Jvm.MethodName)) ∈ lw_all := lw_g (lw_at lw_m13 82 rfl) rfl
theorem q3217 : (Jvm.Cond.privateMethod ({ cls := "WordTongue", name := "free", desc := "(I)V" } : Jvm.MethodName)) ∈ lw_tbl := lw_at lw_m13 83 rfl
theorem q3218 : (Jvm.Cond.instanceMethod ({ cls := "WordTongue", name := "free", desc := "(I)V" } : Jvm.MethodName)) ∈ lw_all := lw_g (lw_at lw_m13 84 rfl) rfl
theorem q3219 : (Jvm.Cond.code ({ cls := "WordTongue", name := "free", desc := "(I)V" } : Jvm.MethodName) prog_1_method_37_code (5 : Nat) (Option.none : Option Jvm.ClassFile.FieldType)) ∈ lw_all := lw_g (lw_at lw_m13 85 rfl) rfl
theorem q3220 : (Jvm.Cond.methodLink "WordTongue" (493 : Nat) ({ cls := "WordTongue", name := "applied", desc := "(IIII)V" } : Jvm.MethodName)) ∈ lw_all := lw_g (lw_at lw_m13 86 rfl) rfl
theorem q3221 : (Jvm.Cond.privateMethod ({ cls := "WordTongue", name := "applied", desc := "(IIII)V" } : Jvm.MethodName)) ∈ lw_tbl := lw_at lw_m13 87 rfl
theorem q3222 : (Jvm.Cond.instanceMethod ({ cls := "WordTongue", name := "applied", desc := "(IIII)V" } : Jvm.MethodName)) ∈ lw_all := lw_g (lw_at lw_m13 88 rfl) rfl
theorem q3223 : (Jvm.Cond.code ({ cls := "WordTongue", name := "applied", desc := "(IIII)V" } : Jvm.MethodName) prog_1_method_38_code (5 : Nat) (Option.none : Option Jvm.ClassFile.FieldType)) ∈ lw_all := lw_g (lw_at lw_m13 89 rfl) rfl
theorem q3224 : (Jvm.Cond.methodLink "WordTongue" (496 : Nat) ({ cls := "java/lang/Math", name := "min", desc := "(II)I" } : Jvm.MethodName)) ∈ lw_all := lw_g (lw_at lw_m13 90 rfl) rfl
theorem q3225 : (Jvm.Cond.methodLink "WordTongue" (500 : Nat) ({ cls := "WordTongue", name := "hexadecimal", desc := "(II)V" } : Jvm.MethodName)) ∈ lw_all := lw_g (lw_at lw_m13 91 rfl) rfl
theorem q3226 : (Jvm.Cond.privateMethod ({ cls := "WordTongue", name := "hexadecimal", desc := "(II)V" } : Jvm.MethodName)) ∈ lw_tbl := lw_at lw_m13 92 rfl
theorem q3227 : (Jvm.Cond.instanceMethod ({ cls := "WordTongue", name := "hexadecimal", desc := "(II)V" } : Jvm.MethodName)) ∈ lw_all := lw_g (lw_at lw_m13 93 rfl) rfl
theorem q3228 : (Jvm.Cond.code ({ cls := "WordTongue", name := "hexadecimal", desc := "(II)V" } : Jvm.MethodName) prog_1_method_35_code (5 : Nat) (Option.none : Option Jvm.ClassFile.FieldType)) ∈ lw_all := lw_g (lw_at lw_m13 94 rfl) rfl
theorem q3229 : (Jvm.Cond.methodLink "WordTongue" (523 : Nat) ({ cls := "java/lang/Math", name := "max", desc := "(II)I" } : Jvm.MethodName)) ∈ lw_all := lw_g (lw_at lw_m13 95 rfl) rfl
theorem q3230 : (Jvm.Cond.methodLink "WordTongue" (503 : Nat) ({ cls := "WordTongue", name := "valued", desc := "(IIIII)I" } : Jvm.MethodName)) ∈ lw_all := lw_g (lw_at lw_m13 96 rfl) rfl
theorem q3231 : (Jvm.Cond.privateMethod ({ cls := "WordTongue", name := "valued", desc := "(IIIII)I" } : Jvm.MethodName)) ∈ lw_tbl := lw_at lw_m13 97 rfl
theorem q3232 : (Jvm.Cond.instanceMethod ({ cls := "WordTongue", name := "valued", desc := "(IIIII)I" } : Jvm.MethodName)) ∈ lw_all := lw_g (lw_at lw_m13 98 rfl) rfl
theorem q3233 : (Jvm.Cond.code ({ cls := "WordTongue", name := "valued", desc := "(IIIII)I" } : Jvm.MethodName) prog_1_method_33_code (7 : Nat) (Option.some Jvm.ClassFile.FieldType.int)) ∈ lw_all := lw_g (lw_at lw_m13 99 rfl) rfl
theorem q3234 : (Jvm.Cond.methodLink "WordTongue" (507 : Nat) ({ cls := "WordTongue$Stream", name := "read", desc := "()I" } : Jvm.MethodName)) ∈ lw_all := lw_g (lw_at lw_m13 100 rfl) rfl
theorem q3238 : (Jvm.Cond.methodLink "WordTongue" (513 : Nat) ({ cls := "WordTongue", name := "got", desc := "(II)I" } : Jvm.MethodName)) ∈ lw_all := lw_g (lw_at lw_m13 104 rfl) rfl
theorem q3239 : (Jvm.Cond.privateMethod ({ cls := "WordTongue", name := "got", desc := "(II)I" } : Jvm.MethodName)) ∈ lw_tbl := lw_at lw_m13 105 rfl
theorem q3240 : (Jvm.Cond.instanceMethod ({ cls := "WordTongue", name := "got", desc := "(II)I" } : Jvm.MethodName)) ∈ lw_all := lw_g (lw_at lw_m13 106 rfl) rfl
theorem q3241 : (Jvm.Cond.code ({ cls := "WordTongue", name := "got", desc := "(II)I" } : Jvm.MethodName) prog_1_method_36_code (7 : Nat) (Option.some Jvm.ClassFile.FieldType.int)) ∈ lw_all := lw_g (lw_at lw_m13 107 rfl) rfl
theorem q3242 : (Jvm.Cond.methodLinkNest "WordTongue" (526 : Nat) ({ cls := "WordTongue$Loader", name := "longer", desc := "([II)[I" } : Jvm.MethodName) "WordTongue") ∈ lw_tbl := lw_at lw_m13 108 rfl
theorem q3243 : (Jvm.Cond.methodLink "WordTongue" (516 : Nat) ({ cls := "WordTongue$Stream", name := "number", desc := "()I" } : Jvm.MethodName)) ∈ lw_all := lw_g (lw_at lw_m13 109 rfl) rfl
theorem q3247 : (Jvm.Cond.methodLink "WordTongue" (539 : Nat) ({ cls := "WordTongue", name := "does", desc := "(I)V" } : Jvm.MethodName)) ∈ lw_all := lw_g (lw_at lw_m13 113 rfl) rfl
theorem q3248 : (Jvm.Cond.privateMethod ({ cls := "WordTongue", name := "does", desc := "(I)V" } : Jvm.MethodName)) ∈ lw_tbl := lw_at lw_m13 114 rfl
theorem q3249 : (Jvm.Cond.instanceMethod ({ cls := "WordTongue", name := "does", desc := "(I)V" } : Jvm.MethodName)) ∈ lw_all := lw_g (lw_at lw_m13 115 rfl) rfl
theorem q3250 : (Jvm.Cond.code ({ cls := "WordTongue", name := "does", desc := "(I)V" } : Jvm.MethodName) prog_1_method_40_code (4 : Nat) (Option.none : Option Jvm.ClassFile.FieldType)) ∈ lw_all := lw_g (lw_at lw_m13 116 rfl) rfl
theorem q3251 : (Jvm.Cond.methodLink "WordTongue" (542 : Nat) ({ cls := "WordTongue", name := "back", desc := "()V" } : Jvm.MethodName)) ∈ lw_all := lw_g (lw_at lw_m13 117 rfl) rfl
theorem q3252 : (Jvm.Cond.privateMethod ({ cls := "WordTongue", name := "back", desc := "()V" } : Jvm.MethodName)) ∈ lw_tbl := lw_at lw_m13 118 rfl
theorem q3253 : (Jvm.Cond.instanceMethod ({ cls := "WordTongue", name := "back", desc := "()V" } : Jvm.MethodName)) ∈ lw_all := lw_g (lw_at lw_m13 119 rfl) rfl
theorem q3254 : (Jvm.Cond.code ({ cls := "WordTongue", name := "back", desc := "()V" } : Jvm.MethodName) prog_1_method_30_code (1 : Nat) (Option.none : Option Jvm.ClassFile.FieldType)) ∈ lw_all := lw_g (lw_at lw_m13 120 rfl) rfl
theorem q3255 : (Jvm.Cond.methodLink "WordTongue" (545 : Nat) ({ cls := "WordTongue", name := "calculates", desc := "(I)V" } : Jvm.MethodName)) ∈ lw_all := lw_g (lw_at lw_m13 121 rfl) rfl
theorem q3256 : (Jvm.Cond.privateMethod ({ cls := "WordTongue", name := "calculates", desc := "(I)V" } : Jvm.MethodName)) ∈ lw_tbl := lw_at lw_m13 122 rfl
theorem q3257 : (Jvm.Cond.instanceMethod ({ cls := "WordTongue", name := "calculates", desc := "(I)V" } : Jvm.MethodName)) ∈ lw_all := lw_g (lw_at lw_m13 123 rfl) rfl
theorem q3258 : (Jvm.Cond.code ({ cls := "WordTongue", name := "calculates", desc := "(I)V" } : Jvm.MethodName) prog_1_method_41_code (3 : Nat) (Option.none : Option Jvm.ClassFile.FieldType)) ∈ lw_all := lw_g (lw_at lw_m13 124 rfl) rfl
theorem q3259 : (Jvm.Cond.methodLink "WordTongue" (548 : Nat) ({ cls := "WordTongue", name := "holds", desc := "(III)Z" } : Jvm.MethodName)) ∈ lw_all := lw_g (lw_at lw_m13 125 rfl) rfl
theorem q3260 : (Jvm.Cond.methodLink "WordTongue" (552 : Nat) ({ cls := "WordTongue", name := "operated", desc := "(III)I" } : Jvm.MethodName)) ∈ lw_all := lw_g (lw_at lw_m13 126 rfl) rfl
theorem q3262 : (Jvm.Cond.instanceMethod ({ cls := "WordTongue", name := "value", desc := "()I" } : Jvm.MethodName)) ∈ lw_all := lw_g (lw_at lw_m13 128 rfl) rfl
theorem q3263 : (Jvm.Cond.selects "WordTongue" ({ cls := "WordTongue", name := "value", desc := "()I" } : Jvm.MethodName) ({ cls := "WordTongue", name := "value", desc := "()I" } : Jvm.MethodName)) ∈ lw_all := lw_g (lw_at lw_m13 129 rfl) rfl
theorem q3264 : (Jvm.Cond.code ({ cls := "WordTongue", name := "value", desc := "()I" } : Jvm.MethodName) prog_1_method_43_code (1 : Nat) (Option.some Jvm.ClassFile.FieldType.int)) ∈ lw_all := lw_g (lw_at lw_m13 130 rfl) rfl
theorem q3266 : (Jvm.Cond.instanceMethod ({ cls := "WordTongue", name := "out", desc := "(I)I" } : Jvm.MethodName)) ∈ lw_all := lw_g (lw_at lw_m13 132 rfl) rfl
theorem q3267 : (Jvm.Cond.selects "WordTongue" ({ cls := "WordTongue", name := "out", desc := "(I)I" } : Jvm.MethodName) ({ cls := "WordTongue", name := "out", desc := "(I)I" } : Jvm.MethodName)) ∈ lw_all := lw_g (lw_at lw_m13 133 rfl) rfl
theorem q3268 : (Jvm.Cond.code ({ cls := "WordTongue", name := "out", desc := "(I)I" } : Jvm.MethodName) prog_1_method_45_code (2 : Nat) (Option.some Jvm.ClassFile.FieldType.int)) ∈ lw_all := lw_g (lw_at lw_m13 134 rfl) rfl
theorem q3270 : (Jvm.Cond.instanceMethod ({ cls := "WordTongue", name := "fuel", desc := "()I" } : Jvm.MethodName)) ∈ lw_all := lw_g (lw_at lw_m13 136 rfl) rfl
theorem q3271 : (Jvm.Cond.selects "WordTongue" ({ cls := "WordTongue", name := "fuel", desc := "()I" } : Jvm.MethodName) ({ cls := "WordTongue", name := "fuel", desc := "()I" } : Jvm.MethodName)) ∈ lw_all := lw_g (lw_at lw_m13 137 rfl) rfl
theorem q3272 : (Jvm.Cond.code ({ cls := "WordTongue", name := "fuel", desc := "()I" } : Jvm.MethodName) prog_1_method_48_code (1 : Nat) (Option.some Jvm.ClassFile.FieldType.int)) ∈ lw_all := lw_g (lw_at lw_m13 138 rfl) rfl
theorem q3278 : (Jvm.Cond.instanceMethod ({ cls := "WordTongue", name := "outAt", desc := "(II)I" } : Jvm.MethodName)) ∈ lw_all := lw_g (lw_at lw_m13 144 rfl) rfl
theorem q3279 : (Jvm.Cond.selects "WordTongue" ({ cls := "WordTongue", name := "outAt", desc := "(II)I" } : Jvm.MethodName) ({ cls := "WordTongue", name := "outAt", desc := "(II)I" } : Jvm.MethodName)) ∈ lw_all := lw_g (lw_at lw_m13 145 rfl) rfl
theorem q3280 : (Jvm.Cond.code ({ cls := "WordTongue", name := "outAt", desc := "(II)I" } : Jvm.MethodName) prog_1_method_46_code (3 : Nat) (Option.some Jvm.ClassFile.FieldType.int)) ∈ lw_all := lw_g (lw_at lw_m13 146 rfl) rfl
theorem q3281 : (Jvm.Cond.methodLink "WordTongue" (566 : Nat) ({ cls := "WordTongue", name := "exists", desc := "(Z)V" } : Jvm.MethodName)) ∈ lw_all := lw_g (lw_at lw_m13 147 rfl) rfl
theorem q3282 : (Jvm.Cond.static ({ cls := "WordTongue", name := "exists", desc := "(Z)V" } : Jvm.MethodName)) ∈ lw_all := lw_g (lw_at lw_m13 148 rfl) rfl
theorem q3283 : (Jvm.Cond.code ({ cls := "WordTongue", name := "exists", desc := "(Z)V" } : Jvm.MethodName) prog_1_method_44_code (1 : Nat) (Option.none : Option Jvm.ClassFile.FieldType)) ∈ lw_all := lw_g (lw_at lw_m13 149 rfl) rfl
theorem q3284 : (Jvm.Cond.classLink "WordTongue" (563 : Nat) "java/util/NoSuchElementException") ∈ lw_all := lw_g (lw_at lw_m13 150 rfl) rfl
theorem q3293 : (Jvm.Cond.methodLink "WordTongue" (565 : Nat) ({ cls := "java/util/NoSuchElementException", name := "<init>", desc := "()V" } : Jvm.MethodName)) ∈ lw_all := lw_g (lw_at lw_m13 159 rfl) rfl
theorem q3303 : (Jvm.Cond.instanceMethod ({ cls := "WordTongue", name := "word", desc := "(I)I" } : Jvm.MethodName)) ∈ lw_all := lw_g (lw_at lw_m13 169 rfl) rfl
theorem q3304 : (Jvm.Cond.selects "WordTongue" ({ cls := "WordTongue", name := "word", desc := "(I)I" } : Jvm.MethodName) ({ cls := "WordTongue", name := "word", desc := "(I)I" } : Jvm.MethodName)) ∈ lw_all := lw_g (lw_at lw_m13 170 rfl) rfl
theorem q3305 : (Jvm.Cond.code ({ cls := "WordTongue", name := "word", desc := "(I)I" } : Jvm.MethodName) prog_1_method_47_code (2 : Nat) (Option.some Jvm.ClassFile.FieldType.int)) ∈ lw_all := lw_g (lw_at lw_m13 171 rfl) rfl
theorem q4329 : (Jvm.Cond.castable "WordTongue" "java/lang/Object") ∈ lw_tbl := lw_at lw_m17 235 rfl
theorem in_X1 : ∀ w ∈ wsX10, w ∈ lw_all := lw_in wsX10 [1287, 1289, 1291, 1293, 1295, 1297, 1299, 1301, 1303, 1305, 1307, 1309, 1311, 1313, 1315, 1317, 1319, 1321, 1323, 1325, 1327, 1329, 1331, 1333, 1335, 1337, 1339, 1341, 1343, 1345, 1347, 1349, 1351, 1353, 1355, 1357, 1359, 1361, 1363, 1365] (by decide +kernel) (by decide +kernel)
/-! WordTongue$Loader -/
set_option maxRecDepth 100000
def RX2 : String := "WordTongue$Loader"
def TX2 : u_T := fun k => match k with
  | 0 => ("WordTongue$Loader", "words", "[I", false)
  | 1 => ("WordTongue$Loader", "many", "I", false)
  | 2 => ("WordTongue$Loader", "labels", "[I", false)
  | 3 => ("WordTongue$Loader", "waits", "[I", false)
  | 4 => ("WordTongue$Loader", "waiting", "I", false)
  | 5 => ("WordTongue$Loader", "at", "I", false)
  | _ => ("WordTongue$Loader", "text", "LWordTongue$Row;", false)
def tyX2 : Nat → FieldType := fun k => match k with
  | 0 => .array .int
  | 1 => .int
  | 2 => .array .int
  | 3 => .array .int
  | 4 => .int
  | 5 => .int
  | _ => .object "WordTongue$Row"
abbrev wsX20 : List Cond := u_ws RX2 TX2 7
theorem nmX2 : ∀ a, a < 7 → ∀ b, b < 7 → a ≠ b → (TX2 a).2.1 ≠ (TX2 b).2.1 := by decide +kernel
theorem tyX2_ok : ∀ k, k < 7 → parseFieldDescriptor (TX2 k).2.2.1 = some (tyX2 k) := by decide +kernel
abbrev cX2_init : ByteArray := prog_8_method_1_code
def yX2_init : MethodName := ⟨RX2, "<init>", "()V"⟩
abbrev cX2_longer : ByteArray := prog_8_method_4_code
def yX2_longer : MethodName := ⟨RX2, "longer", "([II)[I"⟩
abbrev cX2_load : ByteArray := prog_8_method_5_code
def yX2_load : MethodName := ⟨RX2, "load", "(LWordTongue$Row;)I"⟩
abbrev cX2_number : ByteArray := prog_8_method_3_code
def yX2_number : MethodName := ⟨RX2, "number", "()I"⟩
abbrev cX2_word : ByteArray := prog_8_method_2_code
def yX2_word : MethodName := ⟨RX2, "word", "(I)V"⟩
abbrev cX2_instruction : ByteArray := prog_8_method_6_code
def yX2_instruction : MethodName := ⟨RX2, "instruction", "(I)V"⟩
theorem q256 : (Jvm.Cond.initialized "WordTongue$Loader") ∈ lw_all := lw_g (lw_at lw_m1 2 rfl) rfl
theorem q316 : (Jvm.Cond.instantiable "WordTongue$Loader" (7 : Nat)) ∈ lw_all := lw_g (lw_at lw_m1 62 rfl) rfl
theorem q318 : (Jvm.Cond.instanceMethod ({ cls := "WordTongue$Loader", name := "<init>", desc := "()V" } : Jvm.MethodName)) ∈ lw_all := lw_g (lw_at lw_m1 64 rfl) rfl
theorem q319 : (Jvm.Cond.code ({ cls := "WordTongue$Loader", name := "<init>", desc := "()V" } : Jvm.MethodName) prog_8_method_1_code (1 : Nat) (Option.none : Option Jvm.ClassFile.FieldType)) ∈ lw_all := lw_g (lw_at lw_m1 65 rfl) rfl
theorem q320 : (Jvm.Cond.methodLink "WordTongue$Loader" (3 : Nat) ({ cls := "java/lang/Object", name := "<init>", desc := "()V" } : Jvm.MethodName)) ∈ lw_all := lw_g (lw_at lw_m1 66 rfl) rfl
theorem q321 : (Jvm.Cond.fieldLink "WordTongue$Loader" (9 : Nat) "WordTongue$Loader" "words" "[I") ∈ lw_all := lw_g (lw_at lw_m1 67 rfl) rfl
theorem q323 : (Jvm.Cond.fieldLink "WordTongue$Loader" (21 : Nat) "WordTongue$Loader" "many" "I") ∈ lw_all := lw_g (lw_at lw_m1 69 rfl) rfl
theorem q325 : (Jvm.Cond.fieldLink "WordTongue$Loader" (15 : Nat) "WordTongue$Loader" "labels" "[I") ∈ lw_all := lw_g (lw_at lw_m1 71 rfl) rfl
theorem q326 : (Jvm.Cond.fieldLink "WordTongue$Loader" (18 : Nat) "WordTongue$Loader" "waits" "[I") ∈ lw_all := lw_g (lw_at lw_m1 72 rfl) rfl
theorem q327 : (Jvm.Cond.fieldLink "WordTongue$Loader" (44 : Nat) "WordTongue$Loader" "waiting" "I") ∈ lw_all := lw_g (lw_at lw_m1 73 rfl) rfl
theorem q328 : (Jvm.Cond.fieldLink "WordTongue$Loader" (41 : Nat) "WordTongue$Loader" "at" "I") ∈ lw_all := lw_g (lw_at lw_m1 74 rfl) rfl
theorem q329 : (Jvm.Cond.fieldLink "WordTongue$Loader" (31 : Nat) "WordTongue$Loader" "text" "LWordTongue$Row;") ∈ lw_all := lw_g (lw_at lw_m1 75 rfl) rfl
theorem q330 : (Jvm.Cond.lays "WordTongue$Loader" "WordTongue$Loader" "words" "[I") ∈ lw_all := lw_g (lw_at lw_m1 76 rfl) rfl
theorem q331 : (Jvm.Cond.soleField "WordTongue$Loader" "words") ∈ lw_all := lw_g (lw_at lw_m1 77 rfl) rfl
theorem q332 : (Jvm.Cond.lays "WordTongue$Loader" "WordTongue$Loader" "many" "I") ∈ lw_all := lw_g (lw_at lw_m1 78 rfl) rfl
theorem q333 : (Jvm.Cond.soleField "WordTongue$Loader" "many") ∈ lw_all := lw_g (lw_at lw_m1 79 rfl) rfl
theorem q334 : (Jvm.Cond.lays "WordTongue$Loader" "WordTongue$Loader" "labels" "[I") ∈ lw_all := lw_g (lw_at lw_m1 80 rfl) rfl
theorem q335 : (Jvm.Cond.soleField "WordTongue$Loader" "labels") ∈ lw_all := lw_g (lw_at lw_m1 81 rfl) rfl
theorem q336 : (Jvm.Cond.lays "WordTongue$Loader" "WordTongue$Loader" "waits" "[I") ∈ lw_all := lw_g (lw_at lw_m1 82 rfl) rfl
theorem q337 : (Jvm.Cond.soleField "WordTongue$Loader" "waits") ∈ lw_all := lw_g (lw_at lw_m1 83 rfl) rfl
theorem q338 : (Jvm.Cond.lays "WordTongue$Loader" "WordTongue$Loader" "waiting" "I") ∈ lw_all := lw_g (lw_at lw_m1 84 rfl) rfl
theorem q339 : (Jvm.Cond.soleField "WordTongue$Loader" "waiting") ∈ lw_all := lw_g (lw_at lw_m1 85 rfl) rfl
theorem q340 : (Jvm.Cond.lays "WordTongue$Loader" "WordTongue$Loader" "at" "I") ∈ lw_all := lw_g (lw_at lw_m1 86 rfl) rfl
theorem q341 : (Jvm.Cond.soleField "WordTongue$Loader" "at") ∈ lw_all := lw_g (lw_at lw_m1 87 rfl) rfl
theorem q342 : (Jvm.Cond.lays "WordTongue$Loader" "WordTongue$Loader" "text" "LWordTongue$Row;") ∈ lw_all := lw_g (lw_at lw_m1 88 rfl) rfl
theorem q343 : (Jvm.Cond.soleField "WordTongue$Loader" "text") ∈ lw_all := lw_g (lw_at lw_m1 89 rfl) rfl
theorem q344 : (Jvm.Cond.superclass "WordTongue$Loader" "java/lang/Object") ∈ lw_all := lw_g (lw_at lw_m1 90 rfl) rfl
theorem q360 : (Jvm.Cond.fieldLink "WordTongue$Loader" (35 : Nat) "WordTongue$Row" "bytes" "[B") ∈ lw_all := lw_g (lw_at lw_m1 106 rfl) rfl
theorem q362 : (Jvm.Cond.fieldLink "WordTongue$Loader" (48 : Nat) "WordTongue$Row" "many" "I") ∈ lw_all := lw_g (lw_at lw_m1 108 rfl) rfl
theorem q687 : (Jvm.Cond.selects "WordTongue$Loader" ({ cls := "java/lang/Object", name := "hashCode", desc := "()I" } : Jvm.MethodName) ({ cls := "java/lang/Object", name := "hashCode", desc := "()I" } : Jvm.MethodName)) ∈ lw_all := lw_g (lw_at lw_m2 193 rfl) rfl
theorem q832 : (Jvm.Cond.selects "WordTongue$Loader" ({ cls := "java/lang/Object", name := "getClass", desc := "()Ljava/lang/Class;" } : Jvm.MethodName) ({ cls := "java/lang/Object", name := "getClass", desc := "()Ljava/lang/Class;" } : Jvm.MethodName)) ∈ lw_all := lw_g (lw_at lw_m3 98 rfl) rfl
theorem q1118 : (Jvm.Cond.selects "WordTongue$Loader" ({ cls := "java/lang/Object", name := "equals", desc := "(Ljava/lang/Object;)Z" } : Jvm.MethodName) ({ cls := "java/lang/Object", name := "equals", desc := "(Ljava/lang/Object;)Z" } : Jvm.MethodName)) ∈ lw_all := lw_g (lw_at lw_m4 144 rfl) rfl
theorem q2953 : (Jvm.Cond.static ({ cls := "WordTongue$Loader", name := "longer", desc := "([II)[I" } : Jvm.MethodName)) ∈ lw_all := lw_g (lw_at lw_m12 59 rfl) rfl
theorem q2954 : (Jvm.Cond.code ({ cls := "WordTongue$Loader", name := "longer", desc := "([II)[I" } : Jvm.MethodName) prog_8_method_4_code (3 : Nat) (Option.some (Jvm.ClassFile.FieldType.array Jvm.ClassFile.FieldType.int))) ∈ lw_all := lw_g (lw_at lw_m12 60 rfl) rfl
theorem q2955 : (Jvm.Cond.methodLink "WordTongue$Loader" (25 : Nat) ({ cls := "java/lang/System", name := "arraycopy", desc := "(Ljava/lang/Object;ILjava/lang/Object;II)V" } : Jvm.MethodName)) ∈ lw_all := lw_g (lw_at lw_m12 61 rfl) rfl
theorem q3084 : (Jvm.Cond.instanceMethod ({ cls := "WordTongue$Loader", name := "load", desc := "(LWordTongue$Row;)I" } : Jvm.MethodName)) ∈ lw_all := lw_g (lw_at lw_m12 190 rfl) rfl
theorem q3085 : (Jvm.Cond.selects "WordTongue$Loader" ({ cls := "WordTongue$Loader", name := "load", desc := "(LWordTongue$Row;)I" } : Jvm.MethodName) ({ cls := "WordTongue$Loader", name := "load", desc := "(LWordTongue$Row;)I" } : Jvm.MethodName)) ∈ lw_all := lw_g (lw_at lw_m12 191 rfl) rfl
theorem q3086 : (Jvm.Cond.code ({ cls := "WordTongue$Loader", name := "load", desc := "(LWordTongue$Row;)I" } : Jvm.MethodName) prog_8_method_5_code (5 : Nat) (Option.some Jvm.ClassFile.FieldType.int)) ∈ lw_all := lw_g (lw_at lw_m12 192 rfl) rfl
theorem q3087 : (Jvm.Cond.constant "WordTongue$Loader" (47 : Nat) (65536 : Int32)) ∈ lw_all := lw_g (lw_at lw_m12 193 rfl) rfl
theorem q3088 : (Jvm.Cond.methodLink "WordTongue$Loader" (49 : Nat) ({ cls := "WordTongue$Loader", name := "number", desc := "()I" } : Jvm.MethodName)) ∈ lw_all := lw_g (lw_at lw_m12 194 rfl) rfl
theorem q3089 : (Jvm.Cond.privateMethod ({ cls := "WordTongue$Loader", name := "number", desc := "()I" } : Jvm.MethodName)) ∈ lw_tbl := lw_at lw_m12 195 rfl
theorem q3090 : (Jvm.Cond.instanceMethod ({ cls := "WordTongue$Loader", name := "number", desc := "()I" } : Jvm.MethodName)) ∈ lw_all := lw_g (lw_at lw_m12 196 rfl) rfl
theorem q3091 : (Jvm.Cond.code ({ cls := "WordTongue$Loader", name := "number", desc := "()I" } : Jvm.MethodName) prog_8_method_3_code (3 : Nat) (Option.some Jvm.ClassFile.FieldType.int)) ∈ lw_all := lw_g (lw_at lw_m12 197 rfl) rfl
theorem q3092 : (Jvm.Cond.methodLink "WordTongue$Loader" (53 : Nat) ({ cls := "WordTongue$Loader", name := "longer", desc := "([II)[I" } : Jvm.MethodName)) ∈ lw_all := lw_g (lw_at lw_m12 198 rfl) rfl
theorem q3093 : (Jvm.Cond.methodLink "WordTongue$Loader" (57 : Nat) ({ cls := "WordTongue$Loader", name := "word", desc := "(I)V" } : Jvm.MethodName)) ∈ lw_all := lw_g (lw_at lw_m12 199 rfl) rfl
theorem q3094 : (Jvm.Cond.privateMethod ({ cls := "WordTongue$Loader", name := "word", desc := "(I)V" } : Jvm.MethodName)) ∈ lw_tbl := lw_at lw_m12 200 rfl
theorem q3095 : (Jvm.Cond.instanceMethod ({ cls := "WordTongue$Loader", name := "word", desc := "(I)V" } : Jvm.MethodName)) ∈ lw_all := lw_g (lw_at lw_m12 201 rfl) rfl
theorem q3096 : (Jvm.Cond.code ({ cls := "WordTongue$Loader", name := "word", desc := "(I)V" } : Jvm.MethodName) prog_8_method_2_code (3 : Nat) (Option.none : Option Jvm.ClassFile.FieldType)) ∈ lw_all := lw_g (lw_at lw_m12 202 rfl) rfl
theorem q3097 : (Jvm.Cond.methodLink "WordTongue$Loader" (61 : Nat) ({ cls := "WordTongue$Loader", name := "instruction", desc := "(I)V" } : Jvm.MethodName)) ∈ lw_all := lw_g (lw_at lw_m12 203 rfl) rfl
theorem q3098 : (Jvm.Cond.privateMethod ({ cls := "WordTongue$Loader", name := "instruction", desc := "(I)V" } : Jvm.MethodName)) ∈ lw_tbl := lw_at lw_m12 204 rfl
theorem q3099 : (Jvm.Cond.instanceMethod ({ cls := "WordTongue$Loader", name := "instruction", desc := "(I)V" } : Jvm.MethodName)) ∈ lw_all := lw_g (lw_at lw_m12 205 rfl) rfl
theorem q3100 : (Jvm.Cond.code ({ cls := "WordTongue$Loader", name := "instruction", desc := "(I)V" } : Jvm.MethodName) prog_8_method_6_code (5 : Nat) (Option.none : Option Jvm.ClassFile.FieldType)) ∈ lw_all := lw_g (lw_at lw_m12 206 rfl) rfl
theorem q3101 : (Jvm.Cond.stringRef "WordTongue$Loader" (66 : Nat) " LSJTFKX") ∈ lw_tbl := lw_at lw_m12 207 rfl
theorem q3102 : (Jvm.Cond.methodLink "WordTongue$Loader" (68 : Nat) ({ cls := "java/lang/String", name := "indexOf", desc := "(I)I" } : Jvm.MethodName)) ∈ lw_all := lw_g (lw_at lw_m12 208 rfl) rfl
theorem q3103 : (Jvm.Cond.constant "WordTongue$Loader" (74 : Nat) (134217728 : Int32)) ∈ lw_all := lw_g (lw_at lw_m12 209 rfl) rfl
theorem q3104 : (Jvm.Cond.constant "WordTongue$Loader" (75 : Nat) (67108864 : Int32)) ∈ lw_all := lw_g (lw_at lw_m12 210 rfl) rfl
theorem q3105 : (Jvm.Cond.constant "WordTongue$Loader" (76 : Nat) (33554432 : Int32)) ∈ lw_all := lw_g (lw_at lw_m12 211 rfl) rfl
theorem q3106 : (Jvm.Cond.constant "WordTongue$Loader" (65 : Nat) (33554431 : Int32)) ∈ lw_all := lw_g (lw_at lw_m12 212 rfl) rfl
theorem q3107 : (Jvm.Cond.constant "WordTongue$Loader" (64 : Nat) (-33554432 : Int32)) ∈ lw_all := lw_g (lw_at lw_m12 213 rfl) rfl
theorem q4330 : (Jvm.Cond.castable "WordTongue$Loader" "java/lang/Object") ∈ lw_tbl := lw_at lw_m17 236 rfl
theorem in_X2 : ∀ w ∈ wsX20, w ∈ lw_all := lw_in wsX20 [330, 332, 334, 336, 338, 340, 342] (by decide +kernel) (by decide +kernel)
/-! WordTongue$Generator -/
set_option maxRecDepth 100000
def RX3 : String := "WordTongue$Generator"
def TX3 : u_T := fun k => match k with
  | 0 => ("WordTongue$Generator", "out", "LWordTongue$Row;", true)
  | 1 => ("WordTongue$Generator", "kinds", "[I", false)
  | 2 => ("WordTongue$Generator", "values", "[I", false)
  | 3 => ("WordTongue$Generator", "depth", "I", false)
  | 4 => ("WordTongue$Generator", "most", "I", false)
  | 5 => ("WordTongue$Generator", "depths", "[I", false)
  | 6 => ("WordTongue$Generator", "reached", "Z", false)
  | 7 => ("WordTongue$Generator", "great", "[I", false)
  | 8 => ("WordTongue$Generator", "greatMany", "I", false)
  | 9 => ("WordTongue$Generator", "labels", "I", false)
  | 10 => ("WordTongue$Generator", "ways", "[I", false)
  | 11 => ("WordTongue$Generator", "deeps", "[I", false)
  | 12 => ("WordTongue$Generator", "placeOf", "[I", false)
  | 13 => ("WordTongue$Generator", "been", "[Z", false)
  | 14 => ("WordTongue$Generator", "wayMany", "I", false)
  | _ => ("WordTongue$Generator", "same", "Z", false)
def tyX3 : Nat → FieldType := fun k => match k with
  | 0 => .object "WordTongue$Row"
  | 1 => .array .int
  | 2 => .array .int
  | 3 => .int
  | 4 => .int
  | 5 => .array .int
  | 6 => .boolean
  | 7 => .array .int
  | 8 => .int
  | 9 => .int
  | 10 => .array .int
  | 11 => .array .int
  | 12 => .array .int
  | 13 => .array .boolean
  | 14 => .int
  | _ => .boolean
abbrev wsX30 : List Cond := u_ws RX3 TX3 16
set_option maxRecDepth 100000 in
theorem nmX3 : ∀ a, a < 16 → ∀ b, b < 16 → a ≠ b → (TX3 a).2.1 ≠ (TX3 b).2.1 := by decide +kernel
set_option maxRecDepth 100000 in
theorem tyX3_ok : ∀ k, k < 16 → parseFieldDescriptor (TX3 k).2.2.1 = some (tyX3 k) := by decide +kernel
abbrev cX3_init : ByteArray := prog_4_method_1_code
def yX3_init : MethodName := ⟨RX3, "<init>", "()V"⟩
abbrev cX3_make : ByteArray := prog_4_method_15_code
def yX3_make : MethodName := ⟨RX3, "make", "(LWordTongue$Routine;)I"⟩
abbrev cX3_reckon : ByteArray := prog_4_method_12_code
def yX3_reckon : MethodName := ⟨RX3, "reckon", "(LWordTongue$Routine;)V"⟩
abbrev cX3_way : ByteArray := prog_4_method_11_code
def yX3_way : MethodName := ⟨RX3, "way", "(II)V"⟩
abbrev cX3_follow : ByteArray := prog_4_method_13_code
def yX3_follow : MethodName := ⟨RX3, "follow", "(LWordTongue$Routine;II)V"⟩
abbrev cX3_grows : ByteArray := prog_4_method_14_code
def yX3_grows : MethodName := ⟨RX3, "grows", "(II)I"⟩
abbrev cX3_one : ByteArray := prog_4_method_16_code
def yX3_one : MethodName := ⟨RX3, "one", "(III)V"⟩
abbrev cX3_push : ByteArray := prog_4_method_3_code
def yX3_push : MethodName := ⟨RX3, "push", "(II)V"⟩
abbrev cX3_keep : ByteArray := prog_4_method_7_code
def yX3_keep : MethodName := ⟨RX3, "keep", "(I)V"⟩
abbrev cX3_load : ByteArray := prog_4_method_6_code
def yX3_load : MethodName := ⟨RX3, "load", "(I)V"⟩
abbrev cX3_constant : ByteArray := prog_4_method_5_code
def yX3_constant : MethodName := ⟨RX3, "constant", "(I)V"⟩
abbrev cX3_line : ByteArray := prog_4_method_4_code
def yX3_line : MethodName := ⟨RX3, "line", "(Ljava/lang/String;I)V"⟩
abbrev cX3_grow : ByteArray := prog_4_method_2_code
def yX3_grow : MethodName := ⟨RX3, "grow", "()V"⟩
abbrev cX3_stores : ByteArray := prog_4_method_22_code
def yX3_stores : MethodName := ⟨RX3, "stores", "(II)V"⟩
abbrev cX3_keepBelow : ByteArray := prog_4_method_21_code
def yX3_keepBelow : MethodName := ⟨RX3, "keepBelow", "()V"⟩
abbrev cX3_single : ByteArray := prog_4_method_18_code
def yX3_single : MethodName := ⟨RX3, "single", "(I)V"⟩
abbrev cX3_held : ByteArray := prog_4_method_10_code
def yX3_held : MethodName := ⟨RX3, "held", "(I)V"⟩
abbrev cX3_indirect : ByteArray := prog_4_method_23_code
def yX3_indirect : MethodName := ⟨RX3, "indirect", "()V"⟩
abbrev cX3_keep2 : ByteArray := prog_4_method_24_code
def yX3_keep2 : MethodName := ⟨RX3, "keep2", "(I)V"⟩
abbrev cX3_both : ByteArray := prog_4_method_9_code
def yX3_both : MethodName := ⟨RX3, "both", "()V"⟩
abbrev cX3_pair : ByteArray := prog_4_method_19_code
def yX3_pair : MethodName := ⟨RX3, "pair", "(I)V"⟩
abbrev cX3_bytes : ByteArray := prog_4_method_25_code
def yX3_bytes : MethodName := ⟨RX3, "bytes", "()V"⟩
abbrev cX3_chain : ByteArray := prog_4_method_20_code
def yX3_chain : MethodName := ⟨RX3, "chain", "(I)V"⟩
abbrev cX3_call : ByteArray := prog_4_method_26_code
def yX3_call : MethodName := ⟨RX3, "call", "(II)V"⟩
abbrev cX3_keepAll : ByteArray := prog_4_method_8_code
def yX3_keepAll : MethodName := ⟨RX3, "keepAll", "()V"⟩
abbrev cX3_goes : ByteArray := prog_4_method_17_code
def yX3_goes : MethodName := ⟨RX3, "goes", "(II)V"⟩
theorem q257 : (Jvm.Cond.initialized "WordTongue$Generator") ∈ lw_all := lw_g (lw_at lw_m1 3 rfl) rfl
theorem q348 : (Jvm.Cond.instantiable "WordTongue$Generator" (16 : Nat)) ∈ lw_all := lw_g (lw_at lw_m1 94 rfl) rfl
theorem q350 : (Jvm.Cond.instanceMethod ({ cls := "WordTongue$Generator", name := "<init>", desc := "()V" } : Jvm.MethodName)) ∈ lw_all := lw_g (lw_at lw_m1 96 rfl) rfl
theorem q351 : (Jvm.Cond.code ({ cls := "WordTongue$Generator", name := "<init>", desc := "()V" } : Jvm.MethodName) prog_4_method_1_code (1 : Nat) (Option.none : Option Jvm.ClassFile.FieldType)) ∈ lw_all := lw_g (lw_at lw_m1 97 rfl) rfl
theorem q352 : (Jvm.Cond.methodLink "WordTongue$Generator" (3 : Nat) ({ cls := "java/lang/Object", name := "<init>", desc := "()V" } : Jvm.MethodName)) ∈ lw_all := lw_g (lw_at lw_m1 98 rfl) rfl
theorem q353 : (Jvm.Cond.classLink "WordTongue$Generator" (9 : Nat) "WordTongue$Row") ∈ lw_all := lw_g (lw_at lw_m1 99 rfl) rfl
theorem q355 : (Jvm.Cond.methodLinkNest "WordTongue$Generator" (11 : Nat) ({ cls := "WordTongue$Row", name := "<init>", desc := "()V" } : Jvm.MethodName) "WordTongue") ∈ lw_tbl := lw_at lw_m1 101 rfl
theorem q363 : (Jvm.Cond.fieldLink "WordTongue$Generator" (142 : Nat) "WordTongue$Row" "many" "I") ∈ lw_all := lw_g (lw_at lw_m1 109 rfl) rfl
theorem q369 : (Jvm.Cond.fieldLink "WordTongue$Generator" (12 : Nat) "WordTongue$Generator" "out" "LWordTongue$Row;") ∈ lw_all := lw_g (lw_at lw_m1 115 rfl) rfl
theorem q371 : (Jvm.Cond.fieldLink "WordTongue$Generator" (18 : Nat) "WordTongue$Generator" "kinds" "[I") ∈ lw_all := lw_g (lw_at lw_m1 117 rfl) rfl
theorem q372 : (Jvm.Cond.fieldLink "WordTongue$Generator" (22 : Nat) "WordTongue$Generator" "values" "[I") ∈ lw_all := lw_g (lw_at lw_m1 118 rfl) rfl
theorem q373 : (Jvm.Cond.fieldLink "WordTongue$Generator" (44 : Nat) "WordTongue$Generator" "depth" "I") ∈ lw_all := lw_g (lw_at lw_m1 119 rfl) rfl
theorem q374 : (Jvm.Cond.fieldLink "WordTongue$Generator" (61 : Nat) "WordTongue$Generator" "most" "I") ∈ lw_all := lw_g (lw_at lw_m1 120 rfl) rfl
theorem q375 : (Jvm.Cond.fieldLink "WordTongue$Generator" (25 : Nat) "WordTongue$Generator" "depths" "[I") ∈ lw_all := lw_g (lw_at lw_m1 121 rfl) rfl
theorem q376 : (Jvm.Cond.fieldLink "WordTongue$Generator" (143 : Nat) "WordTongue$Generator" "reached" "Z") ∈ lw_all := lw_g (lw_at lw_m1 122 rfl) rfl
theorem q377 : (Jvm.Cond.fieldLink "WordTongue$Generator" (28 : Nat) "WordTongue$Generator" "great" "[I") ∈ lw_all := lw_g (lw_at lw_m1 123 rfl) rfl
theorem q378 : (Jvm.Cond.fieldLink "WordTongue$Generator" (88 : Nat) "WordTongue$Generator" "greatMany" "I") ∈ lw_all := lw_g (lw_at lw_m1 124 rfl) rfl
theorem q379 : (Jvm.Cond.fieldLink "WordTongue$Generator" (93 : Nat) "WordTongue$Generator" "labels" "I") ∈ lw_all := lw_g (lw_at lw_m1 125 rfl) rfl
theorem q380 : (Jvm.Cond.fieldLink "WordTongue$Generator" (31 : Nat) "WordTongue$Generator" "ways" "[I") ∈ lw_all := lw_g (lw_at lw_m1 126 rfl) rfl
theorem q381 : (Jvm.Cond.fieldLink "WordTongue$Generator" (34 : Nat) "WordTongue$Generator" "deeps" "[I") ∈ lw_all := lw_g (lw_at lw_m1 127 rfl) rfl
theorem q382 : (Jvm.Cond.fieldLink "WordTongue$Generator" (37 : Nat) "WordTongue$Generator" "placeOf" "[I") ∈ lw_all := lw_g (lw_at lw_m1 128 rfl) rfl
theorem q383 : (Jvm.Cond.fieldLink "WordTongue$Generator" (40 : Nat) "WordTongue$Generator" "been" "[Z") ∈ lw_all := lw_g (lw_at lw_m1 129 rfl) rfl
theorem q384 : (Jvm.Cond.fieldLink "WordTongue$Generator" (112 : Nat) "WordTongue$Generator" "wayMany" "I") ∈ lw_all := lw_g (lw_at lw_m1 130 rfl) rfl
theorem q385 : (Jvm.Cond.fieldLink "WordTongue$Generator" (189 : Nat) "WordTongue$Generator" "same" "Z") ∈ lw_all := lw_g (lw_at lw_m1 131 rfl) rfl
theorem q386 : (Jvm.Cond.laysFinal "WordTongue$Generator" "WordTongue$Generator" "out" "LWordTongue$Row;") ∈ lw_all := lw_g (lw_at lw_m1 132 rfl) rfl
theorem q387 : (Jvm.Cond.soleField "WordTongue$Generator" "out") ∈ lw_all := lw_g (lw_at lw_m1 133 rfl) rfl
theorem q388 : (Jvm.Cond.lays "WordTongue$Generator" "WordTongue$Generator" "kinds" "[I") ∈ lw_all := lw_g (lw_at lw_m1 134 rfl) rfl
theorem q389 : (Jvm.Cond.soleField "WordTongue$Generator" "kinds") ∈ lw_all := lw_g (lw_at lw_m1 135 rfl) rfl
theorem q390 : (Jvm.Cond.lays "WordTongue$Generator" "WordTongue$Generator" "values" "[I") ∈ lw_all := lw_g (lw_at lw_m1 136 rfl) rfl
theorem q391 : (Jvm.Cond.soleField "WordTongue$Generator" "values") ∈ lw_all := lw_g (lw_at lw_m1 137 rfl) rfl
theorem q392 : (Jvm.Cond.lays "WordTongue$Generator" "WordTongue$Generator" "depth" "I") ∈ lw_all := lw_g (lw_at lw_m1 138 rfl) rfl
theorem q393 : (Jvm.Cond.soleField "WordTongue$Generator" "depth") ∈ lw_all := lw_g (lw_at lw_m1 139 rfl) rfl
theorem q394 : (Jvm.Cond.lays "WordTongue$Generator" "WordTongue$Generator" "most" "I") ∈ lw_all := lw_g (lw_at lw_m1 140 rfl) rfl
theorem q395 : (Jvm.Cond.soleField "WordTongue$Generator" "most") ∈ lw_all := lw_g (lw_at lw_m1 141 rfl) rfl
theorem q396 : (Jvm.Cond.lays "WordTongue$Generator" "WordTongue$Generator" "depths" "[I") ∈ lw_all := lw_g (lw_at lw_m1 142 rfl) rfl
theorem q397 : (Jvm.Cond.soleField "WordTongue$Generator" "depths") ∈ lw_all := lw_g (lw_at lw_m1 143 rfl) rfl
theorem q398 : (Jvm.Cond.lays "WordTongue$Generator" "WordTongue$Generator" "reached" "Z") ∈ lw_all := lw_g (lw_at lw_m1 144 rfl) rfl
theorem q399 : (Jvm.Cond.soleField "WordTongue$Generator" "reached") ∈ lw_all := lw_g (lw_at lw_m1 145 rfl) rfl
theorem q400 : (Jvm.Cond.lays "WordTongue$Generator" "WordTongue$Generator" "great" "[I") ∈ lw_all := lw_g (lw_at lw_m1 146 rfl) rfl
theorem q401 : (Jvm.Cond.soleField "WordTongue$Generator" "great") ∈ lw_all := lw_g (lw_at lw_m1 147 rfl) rfl
theorem q402 : (Jvm.Cond.lays "WordTongue$Generator" "WordTongue$Generator" "greatMany" "I") ∈ lw_all := lw_g (lw_at lw_m1 148 rfl) rfl
theorem q403 : (Jvm.Cond.soleField "WordTongue$Generator" "greatMany") ∈ lw_all := lw_g (lw_at lw_m1 149 rfl) rfl
theorem q404 : (Jvm.Cond.lays "WordTongue$Generator" "WordTongue$Generator" "labels" "I") ∈ lw_all := lw_g (lw_at lw_m1 150 rfl) rfl
theorem q405 : (Jvm.Cond.soleField "WordTongue$Generator" "labels") ∈ lw_all := lw_g (lw_at lw_m1 151 rfl) rfl
theorem q406 : (Jvm.Cond.lays "WordTongue$Generator" "WordTongue$Generator" "ways" "[I") ∈ lw_all := lw_g (lw_at lw_m1 152 rfl) rfl
theorem q407 : (Jvm.Cond.soleField "WordTongue$Generator" "ways") ∈ lw_all := lw_g (lw_at lw_m1 153 rfl) rfl
theorem q408 : (Jvm.Cond.lays "WordTongue$Generator" "WordTongue$Generator" "deeps" "[I") ∈ lw_all := lw_g (lw_at lw_m1 154 rfl) rfl
theorem q409 : (Jvm.Cond.soleField "WordTongue$Generator" "deeps") ∈ lw_all := lw_g (lw_at lw_m1 155 rfl) rfl
theorem q410 : (Jvm.Cond.lays "WordTongue$Generator" "WordTongue$Generator" "placeOf" "[I") ∈ lw_all := lw_g (lw_at lw_m1 156 rfl) rfl
theorem q411 : (Jvm.Cond.soleField "WordTongue$Generator" "placeOf") ∈ lw_all := lw_g (lw_at lw_m1 157 rfl) rfl
theorem q412 : (Jvm.Cond.lays "WordTongue$Generator" "WordTongue$Generator" "been" "[Z") ∈ lw_all := lw_g (lw_at lw_m1 158 rfl) rfl
theorem q413 : (Jvm.Cond.soleField "WordTongue$Generator" "been") ∈ lw_all := lw_g (lw_at lw_m1 159 rfl) rfl
theorem q414 : (Jvm.Cond.lays "WordTongue$Generator" "WordTongue$Generator" "wayMany" "I") ∈ lw_all := lw_g (lw_at lw_m1 160 rfl) rfl
theorem q415 : (Jvm.Cond.soleField "WordTongue$Generator" "wayMany") ∈ lw_all := lw_g (lw_at lw_m1 161 rfl) rfl
theorem q416 : (Jvm.Cond.lays "WordTongue$Generator" "WordTongue$Generator" "same" "Z") ∈ lw_all := lw_g (lw_at lw_m1 162 rfl) rfl
theorem q417 : (Jvm.Cond.soleField "WordTongue$Generator" "same") ∈ lw_all := lw_g (lw_at lw_m1 163 rfl) rfl
theorem q418 : (Jvm.Cond.superclass "WordTongue$Generator" "java/lang/Object") ∈ lw_all := lw_g (lw_at lw_m1 164 rfl) rfl
theorem q678 : (Jvm.Cond.selects "WordTongue$Generator" ({ cls := "java/lang/Object", name := "hashCode", desc := "()I" } : Jvm.MethodName) ({ cls := "java/lang/Object", name := "hashCode", desc := "()I" } : Jvm.MethodName)) ∈ lw_all := lw_g (lw_at lw_m2 184 rfl) rfl
theorem q828 : (Jvm.Cond.selects "WordTongue$Generator" ({ cls := "java/lang/Object", name := "getClass", desc := "()Ljava/lang/Class;" } : Jvm.MethodName) ({ cls := "java/lang/Object", name := "getClass", desc := "()Ljava/lang/Class;" } : Jvm.MethodName)) ∈ lw_all := lw_g (lw_at lw_m3 94 rfl) rfl
theorem q1112 : (Jvm.Cond.selects "WordTongue$Generator" ({ cls := "java/lang/Object", name := "equals", desc := "(Ljava/lang/Object;)Z" } : Jvm.MethodName) ({ cls := "java/lang/Object", name := "equals", desc := "(Ljava/lang/Object;)Z" } : Jvm.MethodName)) ∈ lw_all := lw_g (lw_at lw_m4 138 rfl) rfl
theorem q2580 : (Jvm.Cond.fieldLink "WordTongue$Generator" (127 : Nat) "WordTongue$Routine" "code" "[I") ∈ lw_all := lw_g (lw_at lw_m10 166 rfl) rfl
theorem q2583 : (Jvm.Cond.fieldLink "WordTongue$Generator" (121 : Nat) "WordTongue$Routine" "many" "I") ∈ lw_all := lw_g (lw_at lw_m10 169 rfl) rfl
theorem q2586 : (Jvm.Cond.fieldLink "WordTongue$Generator" (126 : Nat) "WordTongue$Routine" "labels" "I") ∈ lw_all := lw_g (lw_at lw_m10 172 rfl) rfl
theorem q2941 : (Jvm.Cond.instanceMethod ({ cls := "WordTongue$Generator", name := "make", desc := "(LWordTongue$Routine;)I" } : Jvm.MethodName)) ∈ lw_all := lw_g (lw_at lw_m12 47 rfl) rfl
theorem q2942 : (Jvm.Cond.selects "WordTongue$Generator" ({ cls := "WordTongue$Generator", name := "make", desc := "(LWordTongue$Routine;)I" } : Jvm.MethodName) ({ cls := "WordTongue$Generator", name := "make", desc := "(LWordTongue$Routine;)I" } : Jvm.MethodName)) ∈ lw_all := lw_g (lw_at lw_m12 48 rfl) rfl
theorem q2943 : (Jvm.Cond.code ({ cls := "WordTongue$Generator", name := "make", desc := "(LWordTongue$Routine;)I" } : Jvm.MethodName) prog_4_method_15_code (3 : Nat) (Option.some Jvm.ClassFile.FieldType.int)) ∈ lw_all := lw_g (lw_at lw_m12 49 rfl) rfl
theorem q2944 : (Jvm.Cond.methodLink "WordTongue$Generator" (147 : Nat) ({ cls := "WordTongue$Generator", name := "reckon", desc := "(LWordTongue$Routine;)V" } : Jvm.MethodName)) ∈ lw_all := lw_g (lw_at lw_m12 50 rfl) rfl
theorem q2945 : (Jvm.Cond.privateMethod ({ cls := "WordTongue$Generator", name := "reckon", desc := "(LWordTongue$Routine;)V" } : Jvm.MethodName)) ∈ lw_tbl := lw_at lw_m12 51 rfl
theorem q2946 : (Jvm.Cond.instanceMethod ({ cls := "WordTongue$Generator", name := "reckon", desc := "(LWordTongue$Routine;)V" } : Jvm.MethodName)) ∈ lw_all := lw_g (lw_at lw_m12 52 rfl) rfl
theorem q2947 : (Jvm.Cond.code ({ cls := "WordTongue$Generator", name := "reckon", desc := "(LWordTongue$Routine;)V" } : Jvm.MethodName) prog_4_method_12_code (3 : Nat) (Option.none : Option Jvm.ClassFile.FieldType)) ∈ lw_all := lw_g (lw_at lw_m12 53 rfl) rfl
theorem q2948 : (Jvm.Cond.methodLink "WordTongue$Generator" (130 : Nat) ({ cls := "WordTongue$Generator", name := "way", desc := "(II)V" } : Jvm.MethodName)) ∈ lw_all := lw_g (lw_at lw_m12 54 rfl) rfl
theorem q2949 : (Jvm.Cond.privateMethod ({ cls := "WordTongue$Generator", name := "way", desc := "(II)V" } : Jvm.MethodName)) ∈ lw_tbl := lw_at lw_m12 55 rfl
theorem q2950 : (Jvm.Cond.instanceMethod ({ cls := "WordTongue$Generator", name := "way", desc := "(II)V" } : Jvm.MethodName)) ∈ lw_all := lw_g (lw_at lw_m12 56 rfl) rfl
theorem q2951 : (Jvm.Cond.code ({ cls := "WordTongue$Generator", name := "way", desc := "(II)V" } : Jvm.MethodName) prog_4_method_11_code (3 : Nat) (Option.none : Option Jvm.ClassFile.FieldType)) ∈ lw_all := lw_g (lw_at lw_m12 57 rfl) rfl
theorem q2952 : (Jvm.Cond.methodLinkNest "WordTongue$Generator" (115 : Nat) ({ cls := "WordTongue$Loader", name := "longer", desc := "([II)[I" } : Jvm.MethodName) "WordTongue") ∈ lw_tbl := lw_at lw_m12 58 rfl
theorem q2956 : (Jvm.Cond.methodLink "WordTongue$Generator" (134 : Nat) ({ cls := "WordTongue$Generator", name := "follow", desc := "(LWordTongue$Routine;II)V" } : Jvm.MethodName)) ∈ lw_all := lw_g (lw_at lw_m12 62 rfl) rfl
theorem q2957 : (Jvm.Cond.privateMethod ({ cls := "WordTongue$Generator", name := "follow", desc := "(LWordTongue$Routine;II)V" } : Jvm.MethodName)) ∈ lw_tbl := lw_at lw_m12 63 rfl
theorem q2958 : (Jvm.Cond.instanceMethod ({ cls := "WordTongue$Generator", name := "follow", desc := "(LWordTongue$Routine;II)V" } : Jvm.MethodName)) ∈ lw_all := lw_g (lw_at lw_m12 64 rfl) rfl
theorem q2959 : (Jvm.Cond.code ({ cls := "WordTongue$Generator", name := "follow", desc := "(LWordTongue$Routine;II)V" } : Jvm.MethodName) prog_4_method_13_code (8 : Nat) (Option.none : Option Jvm.ClassFile.FieldType)) ∈ lw_all := lw_g (lw_at lw_m12 65 rfl) rfl
theorem q2960 : (Jvm.Cond.methodLink "WordTongue$Generator" (138 : Nat) ({ cls := "WordTongue$Generator", name := "grows", desc := "(II)I" } : Jvm.MethodName)) ∈ lw_all := lw_g (lw_at lw_m12 66 rfl) rfl
theorem q2961 : (Jvm.Cond.static ({ cls := "WordTongue$Generator", name := "grows", desc := "(II)I" } : Jvm.MethodName)) ∈ lw_all := lw_g (lw_at lw_m12 67 rfl) rfl
theorem q2962 : (Jvm.Cond.code ({ cls := "WordTongue$Generator", name := "grows", desc := "(II)I" } : Jvm.MethodName) prog_4_method_14_code (2 : Nat) (Option.some Jvm.ClassFile.FieldType.int)) ∈ lw_all := lw_g (lw_at lw_m12 68 rfl) rfl
theorem q2963 : (Jvm.Cond.constant "WordTongue$Generator" (141 : Nat) (65536 : Int32)) ∈ lw_all := lw_g (lw_at lw_m12 69 rfl) rfl
theorem q2964 : (Jvm.Cond.methodLink "WordTongue$Generator" (151 : Nat) ({ cls := "WordTongue$Generator", name := "one", desc := "(III)V" } : Jvm.MethodName)) ∈ lw_all := lw_g (lw_at lw_m12 70 rfl) rfl
theorem q2965 : (Jvm.Cond.privateMethod ({ cls := "WordTongue$Generator", name := "one", desc := "(III)V" } : Jvm.MethodName)) ∈ lw_tbl := lw_at lw_m12 71 rfl
theorem q2966 : (Jvm.Cond.instanceMethod ({ cls := "WordTongue$Generator", name := "one", desc := "(III)V" } : Jvm.MethodName)) ∈ lw_all := lw_g (lw_at lw_m12 72 rfl) rfl
theorem q2967 : (Jvm.Cond.code ({ cls := "WordTongue$Generator", name := "one", desc := "(III)V" } : Jvm.MethodName) prog_4_method_16_code (4 : Nat) (Option.none : Option Jvm.ClassFile.FieldType)) ∈ lw_all := lw_g (lw_at lw_m12 73 rfl) rfl
theorem q2968 : (Jvm.Cond.methodLink "WordTongue$Generator" (158 : Nat) ({ cls := "WordTongue$Generator", name := "push", desc := "(II)V" } : Jvm.MethodName)) ∈ lw_all := lw_g (lw_at lw_m12 74 rfl) rfl
theorem q2969 : (Jvm.Cond.privateMethod ({ cls := "WordTongue$Generator", name := "push", desc := "(II)V" } : Jvm.MethodName)) ∈ lw_tbl := lw_at lw_m12 75 rfl
theorem q2970 : (Jvm.Cond.instanceMethod ({ cls := "WordTongue$Generator", name := "push", desc := "(II)V" } : Jvm.MethodName)) ∈ lw_all := lw_g (lw_at lw_m12 76 rfl) rfl
theorem q2971 : (Jvm.Cond.code ({ cls := "WordTongue$Generator", name := "push", desc := "(II)V" } : Jvm.MethodName) prog_4_method_3_code (3 : Nat) (Option.none : Option Jvm.ClassFile.FieldType)) ∈ lw_all := lw_g (lw_at lw_m12 77 rfl) rfl
theorem q2972 : (Jvm.Cond.methodLink "WordTongue$Generator" (54 : Nat) ({ cls := "WordTongue$Generator", name := "keep", desc := "(I)V" } : Jvm.MethodName)) ∈ lw_all := lw_g (lw_at lw_m12 78 rfl) rfl
theorem q2973 : (Jvm.Cond.privateMethod ({ cls := "WordTongue$Generator", name := "keep", desc := "(I)V" } : Jvm.MethodName)) ∈ lw_tbl := lw_at lw_m12 79 rfl
theorem q2974 : (Jvm.Cond.instanceMethod ({ cls := "WordTongue$Generator", name := "keep", desc := "(I)V" } : Jvm.MethodName)) ∈ lw_all := lw_g (lw_at lw_m12 80 rfl) rfl
theorem q2975 : (Jvm.Cond.code ({ cls := "WordTongue$Generator", name := "keep", desc := "(I)V" } : Jvm.MethodName) prog_4_method_7_code (2 : Nat) (Option.none : Option Jvm.ClassFile.FieldType)) ∈ lw_all := lw_g (lw_at lw_m12 81 rfl) rfl
theorem q2976 : (Jvm.Cond.methodLink "WordTongue$Generator" (107 : Nat) ({ cls := "WordTongue$Generator", name := "load", desc := "(I)V" } : Jvm.MethodName)) ∈ lw_all := lw_g (lw_at lw_m12 82 rfl) rfl
theorem q2977 : (Jvm.Cond.privateMethod ({ cls := "WordTongue$Generator", name := "load", desc := "(I)V" } : Jvm.MethodName)) ∈ lw_tbl := lw_at lw_m12 83 rfl
theorem q2978 : (Jvm.Cond.instanceMethod ({ cls := "WordTongue$Generator", name := "load", desc := "(I)V" } : Jvm.MethodName)) ∈ lw_all := lw_g (lw_at lw_m12 84 rfl) rfl
theorem q2979 : (Jvm.Cond.code ({ cls := "WordTongue$Generator", name := "load", desc := "(I)V" } : Jvm.MethodName) prog_4_method_6_code (2 : Nat) (Option.none : Option Jvm.ClassFile.FieldType)) ∈ lw_all := lw_g (lw_at lw_m12 85 rfl) rfl
theorem q2980 : (Jvm.Cond.methodLink "WordTongue$Generator" (96 : Nat) ({ cls := "WordTongue$Generator", name := "constant", desc := "(I)V" } : Jvm.MethodName)) ∈ lw_all := lw_g (lw_at lw_m12 86 rfl) rfl
theorem q2981 : (Jvm.Cond.privateMethod ({ cls := "WordTongue$Generator", name := "constant", desc := "(I)V" } : Jvm.MethodName)) ∈ lw_tbl := lw_at lw_m12 87 rfl
theorem q2982 : (Jvm.Cond.instanceMethod ({ cls := "WordTongue$Generator", name := "constant", desc := "(I)V" } : Jvm.MethodName)) ∈ lw_all := lw_g (lw_at lw_m12 88 rfl) rfl
theorem q2983 : (Jvm.Cond.code ({ cls := "WordTongue$Generator", name := "constant", desc := "(I)V" } : Jvm.MethodName) prog_4_method_5_code (4 : Nat) (Option.none : Option Jvm.ClassFile.FieldType)) ∈ lw_all := lw_g (lw_at lw_m12 89 rfl) rfl
theorem q2984 : (Jvm.Cond.constant "WordTongue$Generator" (80 : Nat) (-16000000 : Int32)) ∈ lw_all := lw_g (lw_at lw_m12 90 rfl) rfl
theorem q2985 : (Jvm.Cond.constant "WordTongue$Generator" (81 : Nat) (16000000 : Int32)) ∈ lw_all := lw_g (lw_at lw_m12 91 rfl) rfl
theorem q2986 : (Jvm.Cond.stringRef "WordTongue$Generator" (82 : Nat) "L") ∈ lw_tbl := lw_at lw_m12 92 rfl
theorem q2987 : (Jvm.Cond.methodLink "WordTongue$Generator" (84 : Nat) ({ cls := "WordTongue$Generator", name := "line", desc := "(Ljava/lang/String;I)V" } : Jvm.MethodName)) ∈ lw_all := lw_g (lw_at lw_m12 93 rfl) rfl
theorem q2988 : (Jvm.Cond.privateMethod ({ cls := "WordTongue$Generator", name := "line", desc := "(Ljava/lang/String;I)V" } : Jvm.MethodName)) ∈ lw_tbl := lw_at lw_m12 94 rfl
theorem q2989 : (Jvm.Cond.instanceMethod ({ cls := "WordTongue$Generator", name := "line", desc := "(Ljava/lang/String;I)V" } : Jvm.MethodName)) ∈ lw_all := lw_g (lw_at lw_m12 95 rfl) rfl
theorem q2990 : (Jvm.Cond.code ({ cls := "WordTongue$Generator", name := "line", desc := "(Ljava/lang/String;I)V" } : Jvm.MethodName) prog_4_method_4_code (3 : Nat) (Option.none : Option Jvm.ClassFile.FieldType)) ∈ lw_all := lw_g (lw_at lw_m12 96 rfl) rfl
theorem q2991 : (Jvm.Cond.methodLink "WordTongue$Generator" (70 : Nat) ({ cls := "WordTongue$Row", name := "letters", desc := "(Ljava/lang/String;)V" } : Jvm.MethodName)) ∈ lw_all := lw_g (lw_at lw_m12 97 rfl) rfl
theorem q3002 : (Jvm.Cond.methodLink "WordTongue$Generator" (74 : Nat) ({ cls := "WordTongue$Row", name := "number", desc := "(I)V" } : Jvm.MethodName)) ∈ lw_all := lw_g (lw_at lw_m12 108 rfl) rfl
theorem q3009 : (Jvm.Cond.methodLink "WordTongue$Generator" (77 : Nat) ({ cls := "WordTongue$Row", name := "one", desc := "(I)V" } : Jvm.MethodName)) ∈ lw_all := lw_g (lw_at lw_m12 115 rfl) rfl
theorem q3010 : (Jvm.Cond.methodLink "WordTongue$Generator" (48 : Nat) ({ cls := "java/lang/System", name := "arraycopy", desc := "(Ljava/lang/Object;ILjava/lang/Object;II)V" } : Jvm.MethodName)) ∈ lw_all := lw_g (lw_at lw_m12 116 rfl) rfl
theorem q3011 : (Jvm.Cond.stringRef "WordTongue$Generator" (91 : Nat) "LIL") ∈ lw_tbl := lw_at lw_m12 117 rfl
theorem q3012 : (Jvm.Cond.stringRef "WordTongue$Generator" (99 : Nat) "LIP") ∈ lw_tbl := lw_at lw_m12 118 rfl
theorem q3013 : (Jvm.Cond.stringRef "WordTongue$Generator" (101 : Nat) "LI") ∈ lw_tbl := lw_at lw_m12 119 rfl
theorem q3014 : (Jvm.Cond.stringRef "WordTongue$Generator" (103 : Nat) "LP") ∈ lw_tbl := lw_at lw_m12 120 rfl
theorem q3015 : (Jvm.Cond.stringRef "WordTongue$Generator" (105 : Nat) "LIQ") ∈ lw_tbl := lw_at lw_m12 121 rfl
theorem q3016 : (Jvm.Cond.stringRef "WordTongue$Generator" (110 : Nat) "SQ") ∈ lw_tbl := lw_at lw_m12 122 rfl
theorem q3017 : (Jvm.Cond.methodLink "WordTongue$Generator" (58 : Nat) ({ cls := "WordTongue$Generator", name := "grow", desc := "()V" } : Jvm.MethodName)) ∈ lw_all := lw_g (lw_at lw_m12 123 rfl) rfl
theorem q3018 : (Jvm.Cond.privateMethod ({ cls := "WordTongue$Generator", name := "grow", desc := "()V" } : Jvm.MethodName)) ∈ lw_tbl := lw_at lw_m12 124 rfl
theorem q3019 : (Jvm.Cond.instanceMethod ({ cls := "WordTongue$Generator", name := "grow", desc := "()V" } : Jvm.MethodName)) ∈ lw_all := lw_g (lw_at lw_m12 125 rfl) rfl
theorem q3020 : (Jvm.Cond.code ({ cls := "WordTongue$Generator", name := "grow", desc := "()V" } : Jvm.MethodName) prog_4_method_2_code (3 : Nat) (Option.none : Option Jvm.ClassFile.FieldType)) ∈ lw_all := lw_g (lw_at lw_m12 126 rfl) rfl
theorem q3021 : (Jvm.Cond.methodLink "WordTongue$Generator" (64 : Nat) ({ cls := "java/lang/Math", name := "max", desc := "(II)I" } : Jvm.MethodName)) ∈ lw_all := lw_g (lw_at lw_m12 127 rfl) rfl
theorem q3022 : (Jvm.Cond.methodLink "WordTongue$Generator" (161 : Nat) ({ cls := "WordTongue$Generator", name := "stores", desc := "(II)V" } : Jvm.MethodName)) ∈ lw_all := lw_g (lw_at lw_m12 128 rfl) rfl
theorem q3023 : (Jvm.Cond.privateMethod ({ cls := "WordTongue$Generator", name := "stores", desc := "(II)V" } : Jvm.MethodName)) ∈ lw_tbl := lw_at lw_m12 129 rfl
theorem q3024 : (Jvm.Cond.instanceMethod ({ cls := "WordTongue$Generator", name := "stores", desc := "(II)V" } : Jvm.MethodName)) ∈ lw_all := lw_g (lw_at lw_m12 130 rfl) rfl
theorem q3025 : (Jvm.Cond.code ({ cls := "WordTongue$Generator", name := "stores", desc := "(II)V" } : Jvm.MethodName) prog_4_method_22_code (3 : Nat) (Option.none : Option Jvm.ClassFile.FieldType)) ∈ lw_all := lw_g (lw_at lw_m12 131 rfl) rfl
theorem q3026 : (Jvm.Cond.methodLink "WordTongue$Generator" (205 : Nat) ({ cls := "WordTongue$Generator", name := "keepBelow", desc := "()V" } : Jvm.MethodName)) ∈ lw_all := lw_g (lw_at lw_m12 132 rfl) rfl
theorem q3027 : (Jvm.Cond.privateMethod ({ cls := "WordTongue$Generator", name := "keepBelow", desc := "()V" } : Jvm.MethodName)) ∈ lw_tbl := lw_at lw_m12 133 rfl
theorem q3028 : (Jvm.Cond.instanceMethod ({ cls := "WordTongue$Generator", name := "keepBelow", desc := "()V" } : Jvm.MethodName)) ∈ lw_all := lw_g (lw_at lw_m12 134 rfl) rfl
theorem q3029 : (Jvm.Cond.code ({ cls := "WordTongue$Generator", name := "keepBelow", desc := "()V" } : Jvm.MethodName) prog_4_method_21_code (2 : Nat) (Option.none : Option Jvm.ClassFile.FieldType)) ∈ lw_all := lw_g (lw_at lw_m12 135 rfl) rfl
theorem q3030 : (Jvm.Cond.stringRef "WordTongue$Generator" (208 : Nat) "SP") ∈ lw_tbl := lw_at lw_m12 136 rfl
theorem q3031 : (Jvm.Cond.stringRef "WordTongue$Generator" (210 : Nat) "S") ∈ lw_tbl := lw_at lw_m12 137 rfl
theorem q3032 : (Jvm.Cond.methodLink "WordTongue$Generator" (164 : Nat) ({ cls := "WordTongue$Generator", name := "single", desc := "(I)V" } : Jvm.MethodName)) ∈ lw_all := lw_g (lw_at lw_m12 138 rfl) rfl
theorem q3033 : (Jvm.Cond.privateMethod ({ cls := "WordTongue$Generator", name := "single", desc := "(I)V" } : Jvm.MethodName)) ∈ lw_tbl := lw_at lw_m12 139 rfl
theorem q3034 : (Jvm.Cond.instanceMethod ({ cls := "WordTongue$Generator", name := "single", desc := "(I)V" } : Jvm.MethodName)) ∈ lw_all := lw_g (lw_at lw_m12 140 rfl) rfl
theorem q3035 : (Jvm.Cond.code ({ cls := "WordTongue$Generator", name := "single", desc := "(I)V" } : Jvm.MethodName) prog_4_method_18_code (2 : Nat) (Option.none : Option Jvm.ClassFile.FieldType)) ∈ lw_all := lw_g (lw_at lw_m12 141 rfl) rfl
theorem q3036 : (Jvm.Cond.stringRef "WordTongue$Generator" (179 : Nat) "X") ∈ lw_tbl := lw_at lw_m12 142 rfl
theorem q3037 : (Jvm.Cond.methodLink "WordTongue$Generator" (199 : Nat) ({ cls := "WordTongue$Generator", name := "held", desc := "(I)V" } : Jvm.MethodName)) ∈ lw_all := lw_g (lw_at lw_m12 143 rfl) rfl
theorem q3038 : (Jvm.Cond.privateMethod ({ cls := "WordTongue$Generator", name := "held", desc := "(I)V" } : Jvm.MethodName)) ∈ lw_tbl := lw_at lw_m12 144 rfl
theorem q3039 : (Jvm.Cond.instanceMethod ({ cls := "WordTongue$Generator", name := "held", desc := "(I)V" } : Jvm.MethodName)) ∈ lw_all := lw_g (lw_at lw_m12 145 rfl) rfl
theorem q3040 : (Jvm.Cond.code ({ cls := "WordTongue$Generator", name := "held", desc := "(I)V" } : Jvm.MethodName) prog_4_method_10_code (2 : Nat) (Option.none : Option Jvm.ClassFile.FieldType)) ∈ lw_all := lw_g (lw_at lw_m12 146 rfl) rfl
theorem q3041 : (Jvm.Cond.methodLink "WordTongue$Generator" (167 : Nat) ({ cls := "WordTongue$Generator", name := "indirect", desc := "()V" } : Jvm.MethodName)) ∈ lw_all := lw_g (lw_at lw_m12 147 rfl) rfl
theorem q3042 : (Jvm.Cond.privateMethod ({ cls := "WordTongue$Generator", name := "indirect", desc := "()V" } : Jvm.MethodName)) ∈ lw_tbl := lw_at lw_m12 148 rfl
theorem q3043 : (Jvm.Cond.instanceMethod ({ cls := "WordTongue$Generator", name := "indirect", desc := "()V" } : Jvm.MethodName)) ∈ lw_all := lw_g (lw_at lw_m12 149 rfl) rfl
theorem q3044 : (Jvm.Cond.code ({ cls := "WordTongue$Generator", name := "indirect", desc := "()V" } : Jvm.MethodName) prog_4_method_23_code (2 : Nat) (Option.none : Option Jvm.ClassFile.FieldType)) ∈ lw_all := lw_g (lw_at lw_m12 150 rfl) rfl
theorem q3045 : (Jvm.Cond.methodLink "WordTongue$Generator" (212 : Nat) ({ cls := "WordTongue$Generator", name := "keep2", desc := "(I)V" } : Jvm.MethodName)) ∈ lw_all := lw_g (lw_at lw_m12 151 rfl) rfl
theorem q3046 : (Jvm.Cond.privateMethod ({ cls := "WordTongue$Generator", name := "keep2", desc := "(I)V" } : Jvm.MethodName)) ∈ lw_tbl := lw_at lw_m12 152 rfl
theorem q3047 : (Jvm.Cond.instanceMethod ({ cls := "WordTongue$Generator", name := "keep2", desc := "(I)V" } : Jvm.MethodName)) ∈ lw_all := lw_g (lw_at lw_m12 153 rfl) rfl
theorem q3048 : (Jvm.Cond.code ({ cls := "WordTongue$Generator", name := "keep2", desc := "(I)V" } : Jvm.MethodName) prog_4_method_24_code (2 : Nat) (Option.none : Option Jvm.ClassFile.FieldType)) ∈ lw_all := lw_g (lw_at lw_m12 154 rfl) rfl
theorem q3049 : (Jvm.Cond.methodLink "WordTongue$Generator" (202 : Nat) ({ cls := "WordTongue$Generator", name := "both", desc := "()V" } : Jvm.MethodName)) ∈ lw_all := lw_g (lw_at lw_m12 155 rfl) rfl
theorem q3050 : (Jvm.Cond.privateMethod ({ cls := "WordTongue$Generator", name := "both", desc := "()V" } : Jvm.MethodName)) ∈ lw_tbl := lw_at lw_m12 156 rfl
theorem q3051 : (Jvm.Cond.instanceMethod ({ cls := "WordTongue$Generator", name := "both", desc := "()V" } : Jvm.MethodName)) ∈ lw_all := lw_g (lw_at lw_m12 157 rfl) rfl
theorem q3052 : (Jvm.Cond.code ({ cls := "WordTongue$Generator", name := "both", desc := "()V" } : Jvm.MethodName) prog_4_method_9_code (1 : Nat) (Option.none : Option Jvm.ClassFile.FieldType)) ∈ lw_all := lw_g (lw_at lw_m12 158 rfl) rfl
theorem q3053 : (Jvm.Cond.methodLink "WordTongue$Generator" (170 : Nat) ({ cls := "WordTongue$Generator", name := "pair", desc := "(I)V" } : Jvm.MethodName)) ∈ lw_all := lw_g (lw_at lw_m12 159 rfl) rfl
theorem q3054 : (Jvm.Cond.privateMethod ({ cls := "WordTongue$Generator", name := "pair", desc := "(I)V" } : Jvm.MethodName)) ∈ lw_tbl := lw_at lw_m12 160 rfl
theorem q3055 : (Jvm.Cond.instanceMethod ({ cls := "WordTongue$Generator", name := "pair", desc := "(I)V" } : Jvm.MethodName)) ∈ lw_all := lw_g (lw_at lw_m12 161 rfl) rfl
theorem q3056 : (Jvm.Cond.code ({ cls := "WordTongue$Generator", name := "pair", desc := "(I)V" } : Jvm.MethodName) prog_4_method_19_code (2 : Nat) (Option.none : Option Jvm.ClassFile.FieldType)) ∈ lw_all := lw_g (lw_at lw_m12 162 rfl) rfl
theorem q3057 : (Jvm.Cond.methodLink "WordTongue$Generator" (173 : Nat) ({ cls := "WordTongue$Generator", name := "bytes", desc := "()V" } : Jvm.MethodName)) ∈ lw_all := lw_g (lw_at lw_m12 163 rfl) rfl
theorem q3058 : (Jvm.Cond.privateMethod ({ cls := "WordTongue$Generator", name := "bytes", desc := "()V" } : Jvm.MethodName)) ∈ lw_tbl := lw_at lw_m12 164 rfl
theorem q3059 : (Jvm.Cond.instanceMethod ({ cls := "WordTongue$Generator", name := "bytes", desc := "()V" } : Jvm.MethodName)) ∈ lw_all := lw_g (lw_at lw_m12 165 rfl) rfl
theorem q3060 : (Jvm.Cond.code ({ cls := "WordTongue$Generator", name := "bytes", desc := "()V" } : Jvm.MethodName) prog_4_method_25_code (2 : Nat) (Option.none : Option Jvm.ClassFile.FieldType)) ∈ lw_all := lw_g (lw_at lw_m12 166 rfl) rfl
theorem q3061 : (Jvm.Cond.methodLink "WordTongue$Generator" (176 : Nat) ({ cls := "WordTongue$Generator", name := "chain", desc := "(I)V" } : Jvm.MethodName)) ∈ lw_all := lw_g (lw_at lw_m12 167 rfl) rfl
theorem q3062 : (Jvm.Cond.privateMethod ({ cls := "WordTongue$Generator", name := "chain", desc := "(I)V" } : Jvm.MethodName)) ∈ lw_tbl := lw_at lw_m12 168 rfl
theorem q3063 : (Jvm.Cond.instanceMethod ({ cls := "WordTongue$Generator", name := "chain", desc := "(I)V" } : Jvm.MethodName)) ∈ lw_all := lw_g (lw_at lw_m12 169 rfl) rfl
theorem q3064 : (Jvm.Cond.code ({ cls := "WordTongue$Generator", name := "chain", desc := "(I)V" } : Jvm.MethodName) prog_4_method_20_code (2 : Nat) (Option.none : Option Jvm.ClassFile.FieldType)) ∈ lw_all := lw_g (lw_at lw_m12 170 rfl) rfl
theorem q3065 : (Jvm.Cond.methodLink "WordTongue$Generator" (181 : Nat) ({ cls := "WordTongue$Generator", name := "call", desc := "(II)V" } : Jvm.MethodName)) ∈ lw_all := lw_g (lw_at lw_m12 171 rfl) rfl
theorem q3066 : (Jvm.Cond.privateMethod ({ cls := "WordTongue$Generator", name := "call", desc := "(II)V" } : Jvm.MethodName)) ∈ lw_tbl := lw_at lw_m12 172 rfl
theorem q3067 : (Jvm.Cond.instanceMethod ({ cls := "WordTongue$Generator", name := "call", desc := "(II)V" } : Jvm.MethodName)) ∈ lw_all := lw_g (lw_at lw_m12 173 rfl) rfl
theorem q3068 : (Jvm.Cond.code ({ cls := "WordTongue$Generator", name := "call", desc := "(II)V" } : Jvm.MethodName) prog_4_method_26_code (3 : Nat) (Option.none : Option Jvm.ClassFile.FieldType)) ∈ lw_all := lw_g (lw_at lw_m12 174 rfl) rfl
theorem q3069 : (Jvm.Cond.methodLink "WordTongue$Generator" (184 : Nat) ({ cls := "WordTongue$Generator", name := "keepAll", desc := "()V" } : Jvm.MethodName)) ∈ lw_all := lw_g (lw_at lw_m12 175 rfl) rfl
theorem q3070 : (Jvm.Cond.privateMethod ({ cls := "WordTongue$Generator", name := "keepAll", desc := "()V" } : Jvm.MethodName)) ∈ lw_tbl := lw_at lw_m12 176 rfl
theorem q3071 : (Jvm.Cond.instanceMethod ({ cls := "WordTongue$Generator", name := "keepAll", desc := "()V" } : Jvm.MethodName)) ∈ lw_all := lw_g (lw_at lw_m12 177 rfl) rfl
theorem q3072 : (Jvm.Cond.code ({ cls := "WordTongue$Generator", name := "keepAll", desc := "()V" } : Jvm.MethodName) prog_4_method_8_code (2 : Nat) (Option.none : Option Jvm.ClassFile.FieldType)) ∈ lw_all := lw_g (lw_at lw_m12 178 rfl) rfl
theorem q3073 : (Jvm.Cond.stringRef "WordTongue$Generator" (215 : Nat) "K") ∈ lw_tbl := lw_at lw_m12 179 rfl
theorem q3074 : (Jvm.Cond.stringRef "WordTongue$Generator" (156 : Nat) "D") ∈ lw_tbl := lw_at lw_m12 180 rfl
theorem q3075 : (Jvm.Cond.stringRef "WordTongue$Generator" (187 : Nat) "TL") ∈ lw_tbl := lw_at lw_m12 181 rfl
theorem q3076 : (Jvm.Cond.methodLink "WordTongue$Generator" (192 : Nat) ({ cls := "WordTongue$Generator", name := "goes", desc := "(II)V" } : Jvm.MethodName)) ∈ lw_all := lw_g (lw_at lw_m12 182 rfl) rfl
theorem q3077 : (Jvm.Cond.privateMethod ({ cls := "WordTongue$Generator", name := "goes", desc := "(II)V" } : Jvm.MethodName)) ∈ lw_tbl := lw_at lw_m12 183 rfl
theorem q3078 : (Jvm.Cond.instanceMethod ({ cls := "WordTongue$Generator", name := "goes", desc := "(II)V" } : Jvm.MethodName)) ∈ lw_all := lw_g (lw_at lw_m12 184 rfl) rfl
theorem q3079 : (Jvm.Cond.code ({ cls := "WordTongue$Generator", name := "goes", desc := "(II)V" } : Jvm.MethodName) prog_4_method_17_code (4 : Nat) (Option.none : Option Jvm.ClassFile.FieldType)) ∈ lw_all := lw_g (lw_at lw_m12 185 rfl) rfl
theorem q3080 : (Jvm.Cond.stringRef "WordTongue$Generator" (195 : Nat) "JL") ∈ lw_tbl := lw_at lw_m12 186 rfl
theorem q3081 : (Jvm.Cond.stringRef "WordTongue$Generator" (154 : Nat) "") ∈ lw_tbl := lw_at lw_m12 187 rfl
theorem q3082 : (Jvm.Cond.stringRef "WordTongue$Generator" (197 : Nat) "FL") ∈ lw_tbl := lw_at lw_m12 188 rfl
theorem q4331 : (Jvm.Cond.castable "WordTongue$Generator" "java/lang/Object") ∈ lw_tbl := lw_at lw_m17 237 rfl
theorem in_X3 : ∀ w ∈ wsX30, w ∈ lw_all := lw_in wsX30 [386, 388, 390, 392, 394, 396, 398, 400, 402, 404, 406, 408, 410, 412, 414, 416] (by decide +kernel) (by decide +kernel)
/-! WordTongue$Row -/
set_option maxRecDepth 100000
def RX4 : String := "WordTongue$Row"
def TX4 : u_T := fun k => match k with
  | 0 => ("WordTongue$Row", "bytes", "[B", false)
  | _ => ("WordTongue$Row", "many", "I", false)
def tyX4 : Nat → FieldType := fun k => match k with
  | 0 => .array .byte
  | _ => .int
abbrev wsX40 : List Cond := u_ws RX4 TX4 2
theorem nmX4 : ∀ a, a < 2 → ∀ b, b < 2 → a ≠ b → (TX4 a).2.1 ≠ (TX4 b).2.1 := by decide +kernel
theorem tyX4_ok : ∀ k, k < 2 → parseFieldDescriptor (TX4 k).2.2.1 = some (tyX4 k) := by decide +kernel
abbrev cX4_init : ByteArray := prog_14_method_1_code
def yX4_init : MethodName := ⟨RX4, "<init>", "()V"⟩
abbrev cX4_letters : ByteArray := prog_14_method_3_code
def yX4_letters : MethodName := ⟨RX4, "letters", "(Ljava/lang/String;)V"⟩
abbrev cX4_one : ByteArray := prog_14_method_2_code
def yX4_one : MethodName := ⟨RX4, "one", "(I)V"⟩
abbrev cX4_number : ByteArray := prog_14_method_4_code
def yX4_number : MethodName := ⟨RX4, "number", "(I)V"⟩
theorem q258 : (Jvm.Cond.initialized "WordTongue$Row") ∈ lw_all := lw_g (lw_at lw_m1 4 rfl) rfl
theorem q354 : (Jvm.Cond.instantiable "WordTongue$Row" (2 : Nat)) ∈ lw_all := lw_g (lw_at lw_m1 100 rfl) rfl
theorem q356 : (Jvm.Cond.instanceMethod ({ cls := "WordTongue$Row", name := "<init>", desc := "()V" } : Jvm.MethodName)) ∈ lw_all := lw_g (lw_at lw_m1 102 rfl) rfl
theorem q357 : (Jvm.Cond.code ({ cls := "WordTongue$Row", name := "<init>", desc := "()V" } : Jvm.MethodName) prog_14_method_1_code (1 : Nat) (Option.none : Option Jvm.ClassFile.FieldType)) ∈ lw_all := lw_g (lw_at lw_m1 103 rfl) rfl
theorem q358 : (Jvm.Cond.methodLink "WordTongue$Row" (1 : Nat) ({ cls := "java/lang/Object", name := "<init>", desc := "()V" } : Jvm.MethodName)) ∈ lw_all := lw_g (lw_at lw_m1 104 rfl) rfl
theorem q359 : (Jvm.Cond.fieldLink "WordTongue$Row" (7 : Nat) "WordTongue$Row" "bytes" "[B") ∈ lw_all := lw_g (lw_at lw_m1 105 rfl) rfl
theorem q361 : (Jvm.Cond.fieldLink "WordTongue$Row" (13 : Nat) "WordTongue$Row" "many" "I") ∈ lw_all := lw_g (lw_at lw_m1 107 rfl) rfl
theorem q364 : (Jvm.Cond.lays "WordTongue$Row" "WordTongue$Row" "bytes" "[B") ∈ lw_all := lw_g (lw_at lw_m1 110 rfl) rfl
theorem q365 : (Jvm.Cond.soleField "WordTongue$Row" "bytes") ∈ lw_all := lw_g (lw_at lw_m1 111 rfl) rfl
theorem q366 : (Jvm.Cond.lays "WordTongue$Row" "WordTongue$Row" "many" "I") ∈ lw_all := lw_g (lw_at lw_m1 112 rfl) rfl
theorem q367 : (Jvm.Cond.soleField "WordTongue$Row" "many") ∈ lw_all := lw_g (lw_at lw_m1 113 rfl) rfl
theorem q368 : (Jvm.Cond.superclass "WordTongue$Row" "java/lang/Object") ∈ lw_all := lw_g (lw_at lw_m1 114 rfl) rfl
theorem q693 : (Jvm.Cond.selects "WordTongue$Row" ({ cls := "java/lang/Object", name := "hashCode", desc := "()I" } : Jvm.MethodName) ({ cls := "java/lang/Object", name := "hashCode", desc := "()I" } : Jvm.MethodName)) ∈ lw_all := lw_g (lw_at lw_m2 199 rfl) rfl
theorem q838 : (Jvm.Cond.selects "WordTongue$Row" ({ cls := "java/lang/Object", name := "getClass", desc := "()Ljava/lang/Class;" } : Jvm.MethodName) ({ cls := "java/lang/Object", name := "getClass", desc := "()Ljava/lang/Class;" } : Jvm.MethodName)) ∈ lw_all := lw_g (lw_at lw_m3 104 rfl) rfl
theorem q1124 : (Jvm.Cond.selects "WordTongue$Row" ({ cls := "java/lang/Object", name := "equals", desc := "(Ljava/lang/Object;)Z" } : Jvm.MethodName) ({ cls := "java/lang/Object", name := "equals", desc := "(Ljava/lang/Object;)Z" } : Jvm.MethodName)) ∈ lw_all := lw_g (lw_at lw_m4 150 rfl) rfl
theorem q2992 : (Jvm.Cond.instanceMethod ({ cls := "WordTongue$Row", name := "letters", desc := "(Ljava/lang/String;)V" } : Jvm.MethodName)) ∈ lw_all := lw_g (lw_at lw_m12 98 rfl) rfl
theorem q2993 : (Jvm.Cond.selects "WordTongue$Row" ({ cls := "WordTongue$Row", name := "letters", desc := "(Ljava/lang/String;)V" } : Jvm.MethodName) ({ cls := "WordTongue$Row", name := "letters", desc := "(Ljava/lang/String;)V" } : Jvm.MethodName)) ∈ lw_all := lw_g (lw_at lw_m12 99 rfl) rfl
theorem q2994 : (Jvm.Cond.code ({ cls := "WordTongue$Row", name := "letters", desc := "(Ljava/lang/String;)V" } : Jvm.MethodName) prog_14_method_3_code (3 : Nat) (Option.none : Option Jvm.ClassFile.FieldType)) ∈ lw_all := lw_g (lw_at lw_m12 100 rfl) rfl
theorem q2995 : (Jvm.Cond.methodLink "WordTongue$Row" (23 : Nat) ({ cls := "java/lang/String", name := "length", desc := "()I" } : Jvm.MethodName)) ∈ lw_all := lw_g (lw_at lw_m12 101 rfl) rfl
theorem q2996 : (Jvm.Cond.methodLink "WordTongue$Row" (29 : Nat) ({ cls := "java/lang/String", name := "charAt", desc := "(I)C" } : Jvm.MethodName)) ∈ lw_all := lw_g (lw_at lw_m12 102 rfl) rfl
theorem q2997 : (Jvm.Cond.methodLink "WordTongue$Row" (33 : Nat) ({ cls := "WordTongue$Row", name := "one", desc := "(I)V" } : Jvm.MethodName)) ∈ lw_all := lw_g (lw_at lw_m12 103 rfl) rfl
theorem q2998 : (Jvm.Cond.instanceMethod ({ cls := "WordTongue$Row", name := "one", desc := "(I)V" } : Jvm.MethodName)) ∈ lw_all := lw_g (lw_at lw_m12 104 rfl) rfl
theorem q2999 : (Jvm.Cond.selects "WordTongue$Row" ({ cls := "WordTongue$Row", name := "one", desc := "(I)V" } : Jvm.MethodName) ({ cls := "WordTongue$Row", name := "one", desc := "(I)V" } : Jvm.MethodName)) ∈ lw_all := lw_g (lw_at lw_m12 105 rfl) rfl
theorem q3000 : (Jvm.Cond.code ({ cls := "WordTongue$Row", name := "one", desc := "(I)V" } : Jvm.MethodName) prog_14_method_2_code (3 : Nat) (Option.none : Option Jvm.ClassFile.FieldType)) ∈ lw_all := lw_g (lw_at lw_m12 106 rfl) rfl
theorem q3001 : (Jvm.Cond.methodLink "WordTongue$Row" (17 : Nat) ({ cls := "java/lang/System", name := "arraycopy", desc := "(Ljava/lang/Object;ILjava/lang/Object;II)V" } : Jvm.MethodName)) ∈ lw_all := lw_g (lw_at lw_m12 107 rfl) rfl
theorem q3003 : (Jvm.Cond.instanceMethod ({ cls := "WordTongue$Row", name := "number", desc := "(I)V" } : Jvm.MethodName)) ∈ lw_all := lw_g (lw_at lw_m12 109 rfl) rfl
theorem q3004 : (Jvm.Cond.selects "WordTongue$Row" ({ cls := "WordTongue$Row", name := "number", desc := "(I)V" } : Jvm.MethodName) ({ cls := "WordTongue$Row", name := "number", desc := "(I)V" } : Jvm.MethodName)) ∈ lw_all := lw_g (lw_at lw_m12 110 rfl) rfl
theorem q3005 : (Jvm.Cond.code ({ cls := "WordTongue$Row", name := "number", desc := "(I)V" } : Jvm.MethodName) prog_14_method_4_code (3 : Nat) (Option.none : Option Jvm.ClassFile.FieldType)) ∈ lw_all := lw_g (lw_at lw_m12 111 rfl) rfl
theorem q3006 : (Jvm.Cond.methodLink "WordTongue$Row" (37 : Nat) ({ cls := "java/lang/Math", name := "abs", desc := "(I)I" } : Jvm.MethodName)) ∈ lw_all := lw_g (lw_at lw_m12 112 rfl) rfl
theorem q4332 : (Jvm.Cond.castable "WordTongue$Row" "java/lang/Object") ∈ lw_tbl := lw_at lw_m17 238 rfl
theorem in_X4 : ∀ w ∈ wsX40, w ∈ lw_all := lw_in wsX40 [364, 366] (by decide +kernel) (by decide +kernel)
/-! WordTongue$Better -/
set_option maxRecDepth 100000
def RX5 : String := "WordTongue$Better"
def TX5 : u_T := fun k => match k with
  | 0 => ("WordTongue$Better", "from", "[I", false)
  | 1 => ("WordTongue$Better", "to", "[I", false)
  | 2 => ("WordTongue$Better", "n", "I", false)
  | 3 => ("WordTongue$Better", "many", "I", false)
  | 4 => ("WordTongue$Better", "live", "[Z", false)
  | 5 => ("WordTongue$Better", "where", "[I", false)
  | 6 => ("WordTongue$Better", "follow", "[I", false)
  | _ => ("WordTongue$Better", "following", "I", false)
def tyX5 : Nat → FieldType := fun k => match k with
  | 0 => .array .int
  | 1 => .array .int
  | 2 => .int
  | 3 => .int
  | 4 => .array .boolean
  | 5 => .array .int
  | 6 => .array .int
  | _ => .int
abbrev wsX50 : List Cond := u_ws RX5 TX5 8
theorem nmX5 : ∀ a, a < 8 → ∀ b, b < 8 → a ≠ b → (TX5 a).2.1 ≠ (TX5 b).2.1 := by decide +kernel
theorem tyX5_ok : ∀ k, k < 8 → parseFieldDescriptor (TX5 k).2.2.1 = some (tyX5 k) := by decide +kernel
abbrev cX5_init : ByteArray := prog_2_method_1_code
def yX5_init : MethodName := ⟨RX5, "<init>", "()V"⟩
abbrev cX5_all : ByteArray := prog_2_method_2_code
def yX5_all : MethodName := ⟨RX5, "all", "(LWordTongue$Routine;)V"⟩
abbrev cX5_mark : ByteArray := prog_2_method_5_code
def yX5_mark : MethodName := ⟨RX5, "mark", "()V"⟩
abbrev cX5_walk : ByteArray := prog_2_method_6_code
def yX5_walk : MethodName := ⟨RX5, "walk", "(I)V"⟩
abbrev cX5_pass : ByteArray := prog_2_method_7_code
def yX5_pass : MethodName := ⟨RX5, "pass", "()V"⟩
abbrev cX5_folded : ByteArray := prog_2_method_8_code
def yX5_folded : MethodName := ⟨RX5, "folded", "(II)Z"⟩
abbrev cX5_isConstant : ByteArray := prog_2_method_4_code
def yX5_isConstant : MethodName := ⟨RX5, "isConstant", "(I)Z"⟩
abbrev cX5_keep : ByteArray := prog_2_method_3_code
def yX5_keep : MethodName := ⟨RX5, "keep", "(II)V"⟩
abbrev cX5_next : ByteArray := prog_2_method_9_code
def yX5_next : MethodName := ⟨RX5, "next", "(III)Z"⟩
theorem q259 : (Jvm.Cond.initialized "WordTongue$Better") ∈ lw_all := lw_g (lw_at lw_m1 5 rfl) rfl
theorem q421 : (Jvm.Cond.instantiable "WordTongue$Better" (8 : Nat)) ∈ lw_all := lw_g (lw_at lw_m1 167 rfl) rfl
theorem q423 : (Jvm.Cond.instanceMethod ({ cls := "WordTongue$Better", name := "<init>", desc := "()V" } : Jvm.MethodName)) ∈ lw_all := lw_g (lw_at lw_m1 169 rfl) rfl
theorem q424 : (Jvm.Cond.code ({ cls := "WordTongue$Better", name := "<init>", desc := "()V" } : Jvm.MethodName) prog_2_method_1_code (1 : Nat) (Option.none : Option Jvm.ClassFile.FieldType)) ∈ lw_all := lw_g (lw_at lw_m1 170 rfl) rfl
theorem q425 : (Jvm.Cond.methodLink "WordTongue$Better" (3 : Nat) ({ cls := "java/lang/Object", name := "<init>", desc := "()V" } : Jvm.MethodName)) ∈ lw_all := lw_g (lw_at lw_m1 171 rfl) rfl
theorem q426 : (Jvm.Cond.fieldLink "WordTongue$Better" (9 : Nat) "WordTongue$Better" "from" "[I") ∈ lw_all := lw_g (lw_at lw_m1 172 rfl) rfl
theorem q427 : (Jvm.Cond.fieldLink "WordTongue$Better" (15 : Nat) "WordTongue$Better" "to" "[I") ∈ lw_all := lw_g (lw_at lw_m1 173 rfl) rfl
theorem q428 : (Jvm.Cond.fieldLink "WordTongue$Better" (46 : Nat) "WordTongue$Better" "n" "I") ∈ lw_all := lw_g (lw_at lw_m1 174 rfl) rfl
theorem q429 : (Jvm.Cond.fieldLink "WordTongue$Better" (49 : Nat) "WordTongue$Better" "many" "I") ∈ lw_all := lw_g (lw_at lw_m1 175 rfl) rfl
theorem q430 : (Jvm.Cond.fieldLink "WordTongue$Better" (18 : Nat) "WordTongue$Better" "live" "[Z") ∈ lw_all := lw_g (lw_at lw_m1 176 rfl) rfl
theorem q431 : (Jvm.Cond.fieldLink "WordTongue$Better" (22 : Nat) "WordTongue$Better" "where" "[I") ∈ lw_all := lw_g (lw_at lw_m1 177 rfl) rfl
theorem q432 : (Jvm.Cond.fieldLink "WordTongue$Better" (25 : Nat) "WordTongue$Better" "follow" "[I") ∈ lw_all := lw_g (lw_at lw_m1 178 rfl) rfl
theorem q433 : (Jvm.Cond.fieldLink "WordTongue$Better" (56 : Nat) "WordTongue$Better" "following" "I") ∈ lw_all := lw_g (lw_at lw_m1 179 rfl) rfl
theorem q434 : (Jvm.Cond.lays "WordTongue$Better" "WordTongue$Better" "from" "[I") ∈ lw_all := lw_g (lw_at lw_m1 180 rfl) rfl
theorem q435 : (Jvm.Cond.soleField "WordTongue$Better" "from") ∈ lw_all := lw_g (lw_at lw_m1 181 rfl) rfl
theorem q436 : (Jvm.Cond.lays "WordTongue$Better" "WordTongue$Better" "to" "[I") ∈ lw_all := lw_g (lw_at lw_m1 182 rfl) rfl
theorem q437 : (Jvm.Cond.soleField "WordTongue$Better" "to") ∈ lw_all := lw_g (lw_at lw_m1 183 rfl) rfl
theorem q438 : (Jvm.Cond.lays "WordTongue$Better" "WordTongue$Better" "n" "I") ∈ lw_all := lw_g (lw_at lw_m1 184 rfl) rfl
theorem q439 : (Jvm.Cond.soleField "WordTongue$Better" "n") ∈ lw_all := lw_g (lw_at lw_m1 185 rfl) rfl
theorem q440 : (Jvm.Cond.lays "WordTongue$Better" "WordTongue$Better" "many" "I") ∈ lw_all := lw_g (lw_at lw_m1 186 rfl) rfl
theorem q441 : (Jvm.Cond.soleField "WordTongue$Better" "many") ∈ lw_all := lw_g (lw_at lw_m1 187 rfl) rfl
theorem q442 : (Jvm.Cond.lays "WordTongue$Better" "WordTongue$Better" "live" "[Z") ∈ lw_all := lw_g (lw_at lw_m1 188 rfl) rfl
theorem q443 : (Jvm.Cond.soleField "WordTongue$Better" "live") ∈ lw_all := lw_g (lw_at lw_m1 189 rfl) rfl
theorem q444 : (Jvm.Cond.lays "WordTongue$Better" "WordTongue$Better" "where" "[I") ∈ lw_all := lw_g (lw_at lw_m1 190 rfl) rfl
theorem q445 : (Jvm.Cond.soleField "WordTongue$Better" "where") ∈ lw_all := lw_g (lw_at lw_m1 191 rfl) rfl
theorem q446 : (Jvm.Cond.lays "WordTongue$Better" "WordTongue$Better" "follow" "[I") ∈ lw_all := lw_g (lw_at lw_m1 192 rfl) rfl
theorem q447 : (Jvm.Cond.soleField "WordTongue$Better" "follow") ∈ lw_all := lw_g (lw_at lw_m1 193 rfl) rfl
theorem q448 : (Jvm.Cond.lays "WordTongue$Better" "WordTongue$Better" "following" "I") ∈ lw_all := lw_g (lw_at lw_m1 194 rfl) rfl
theorem q449 : (Jvm.Cond.soleField "WordTongue$Better" "following") ∈ lw_all := lw_g (lw_at lw_m1 195 rfl) rfl
theorem q450 : (Jvm.Cond.superclass "WordTongue$Better" "java/lang/Object") ∈ lw_all := lw_g (lw_at lw_m1 196 rfl) rfl
theorem q676 : (Jvm.Cond.selects "WordTongue$Better" ({ cls := "java/lang/Object", name := "hashCode", desc := "()I" } : Jvm.MethodName) ({ cls := "java/lang/Object", name := "hashCode", desc := "()I" } : Jvm.MethodName)) ∈ lw_all := lw_g (lw_at lw_m2 182 rfl) rfl
theorem q826 : (Jvm.Cond.selects "WordTongue$Better" ({ cls := "java/lang/Object", name := "getClass", desc := "()Ljava/lang/Class;" } : Jvm.MethodName) ({ cls := "java/lang/Object", name := "getClass", desc := "()Ljava/lang/Class;" } : Jvm.MethodName)) ∈ lw_all := lw_g (lw_at lw_m3 92 rfl) rfl
theorem q1110 : (Jvm.Cond.selects "WordTongue$Better" ({ cls := "java/lang/Object", name := "equals", desc := "(Ljava/lang/Object;)Z" } : Jvm.MethodName) ({ cls := "java/lang/Object", name := "equals", desc := "(Ljava/lang/Object;)Z" } : Jvm.MethodName)) ∈ lw_all := lw_g (lw_at lw_m4 136 rfl) rfl
theorem q2579 : (Jvm.Cond.fieldLink "WordTongue$Better" (37 : Nat) "WordTongue$Routine" "code" "[I") ∈ lw_all := lw_g (lw_at lw_m10 165 rfl) rfl
theorem q2582 : (Jvm.Cond.fieldLink "WordTongue$Better" (28 : Nat) "WordTongue$Routine" "many" "I") ∈ lw_all := lw_g (lw_at lw_m10 168 rfl) rfl
theorem q2584 : (Jvm.Cond.fieldLink "WordTongue$Better" (34 : Nat) "WordTongue$Routine" "labels" "I") ∈ lw_all := lw_g (lw_at lw_m10 170 rfl) rfl
theorem q2906 : (Jvm.Cond.instanceMethod ({ cls := "WordTongue$Better", name := "all", desc := "(LWordTongue$Routine;)V" } : Jvm.MethodName)) ∈ lw_all := lw_g (lw_at lw_m12 12 rfl) rfl
theorem q2907 : (Jvm.Cond.selects "WordTongue$Better" ({ cls := "WordTongue$Better", name := "all", desc := "(LWordTongue$Routine;)V" } : Jvm.MethodName) ({ cls := "WordTongue$Better", name := "all", desc := "(LWordTongue$Routine;)V" } : Jvm.MethodName)) ∈ lw_all := lw_g (lw_at lw_m12 13 rfl) rfl
theorem q2908 : (Jvm.Cond.code ({ cls := "WordTongue$Better", name := "all", desc := "(LWordTongue$Routine;)V" } : Jvm.MethodName) prog_2_method_2_code (4 : Nat) (Option.none : Option Jvm.ClassFile.FieldType)) ∈ lw_all := lw_g (lw_at lw_m12 14 rfl) rfl
theorem q2909 : (Jvm.Cond.methodLink "WordTongue$Better" (40 : Nat) ({ cls := "java/lang/System", name := "arraycopy", desc := "(Ljava/lang/Object;ILjava/lang/Object;II)V" } : Jvm.MethodName)) ∈ lw_all := lw_g (lw_at lw_m12 15 rfl) rfl
theorem q2910 : (Jvm.Cond.methodLink "WordTongue$Better" (50 : Nat) ({ cls := "WordTongue$Better", name := "mark", desc := "()V" } : Jvm.MethodName)) ∈ lw_all := lw_g (lw_at lw_m12 16 rfl) rfl
theorem q2911 : (Jvm.Cond.privateMethod ({ cls := "WordTongue$Better", name := "mark", desc := "()V" } : Jvm.MethodName)) ∈ lw_tbl := lw_at lw_m12 17 rfl
theorem q2912 : (Jvm.Cond.instanceMethod ({ cls := "WordTongue$Better", name := "mark", desc := "()V" } : Jvm.MethodName)) ∈ lw_all := lw_g (lw_at lw_m12 18 rfl) rfl
theorem q2913 : (Jvm.Cond.code ({ cls := "WordTongue$Better", name := "mark", desc := "()V" } : Jvm.MethodName) prog_2_method_5_code (2 : Nat) (Option.none : Option Jvm.ClassFile.FieldType)) ∈ lw_all := lw_g (lw_at lw_m12 19 rfl) rfl
theorem q2914 : (Jvm.Cond.methodLink "WordTongue$Better" (59 : Nat) ({ cls := "WordTongue$Better", name := "walk", desc := "(I)V" } : Jvm.MethodName)) ∈ lw_all := lw_g (lw_at lw_m12 20 rfl) rfl
theorem q2915 : (Jvm.Cond.privateMethod ({ cls := "WordTongue$Better", name := "walk", desc := "(I)V" } : Jvm.MethodName)) ∈ lw_tbl := lw_at lw_m12 21 rfl
theorem q2916 : (Jvm.Cond.instanceMethod ({ cls := "WordTongue$Better", name := "walk", desc := "(I)V" } : Jvm.MethodName)) ∈ lw_all := lw_g (lw_at lw_m12 22 rfl) rfl
theorem q2917 : (Jvm.Cond.code ({ cls := "WordTongue$Better", name := "walk", desc := "(I)V" } : Jvm.MethodName) prog_2_method_6_code (4 : Nat) (Option.none : Option Jvm.ClassFile.FieldType)) ∈ lw_all := lw_g (lw_at lw_m12 23 rfl) rfl
theorem q2918 : (Jvm.Cond.methodLink "WordTongue$Better" (53 : Nat) ({ cls := "WordTongue$Better", name := "pass", desc := "()V" } : Jvm.MethodName)) ∈ lw_all := lw_g (lw_at lw_m12 24 rfl) rfl
theorem q2919 : (Jvm.Cond.privateMethod ({ cls := "WordTongue$Better", name := "pass", desc := "()V" } : Jvm.MethodName)) ∈ lw_tbl := lw_at lw_m12 25 rfl
theorem q2920 : (Jvm.Cond.instanceMethod ({ cls := "WordTongue$Better", name := "pass", desc := "()V" } : Jvm.MethodName)) ∈ lw_all := lw_g (lw_at lw_m12 26 rfl) rfl
theorem q2921 : (Jvm.Cond.code ({ cls := "WordTongue$Better", name := "pass", desc := "()V" } : Jvm.MethodName) prog_2_method_7_code (4 : Nat) (Option.none : Option Jvm.ClassFile.FieldType)) ∈ lw_all := lw_g (lw_at lw_m12 27 rfl) rfl
theorem q2922 : (Jvm.Cond.methodLink "WordTongue$Better" (63 : Nat) ({ cls := "WordTongue$Better", name := "folded", desc := "(II)Z" } : Jvm.MethodName)) ∈ lw_all := lw_g (lw_at lw_m12 28 rfl) rfl
theorem q2923 : (Jvm.Cond.privateMethod ({ cls := "WordTongue$Better", name := "folded", desc := "(II)Z" } : Jvm.MethodName)) ∈ lw_tbl := lw_at lw_m12 29 rfl
theorem q2924 : (Jvm.Cond.instanceMethod ({ cls := "WordTongue$Better", name := "folded", desc := "(II)Z" } : Jvm.MethodName)) ∈ lw_all := lw_g (lw_at lw_m12 30 rfl) rfl
theorem q2925 : (Jvm.Cond.code ({ cls := "WordTongue$Better", name := "folded", desc := "(II)Z" } : Jvm.MethodName) prog_2_method_8_code (5 : Nat) (Option.some Jvm.ClassFile.FieldType.boolean)) ∈ lw_all := lw_g (lw_at lw_m12 31 rfl) rfl
theorem q2926 : (Jvm.Cond.methodLink "WordTongue$Better" (75 : Nat) ({ cls := "WordTongue$Better", name := "isConstant", desc := "(I)Z" } : Jvm.MethodName)) ∈ lw_all := lw_g (lw_at lw_m12 32 rfl) rfl
theorem q2927 : (Jvm.Cond.privateMethod ({ cls := "WordTongue$Better", name := "isConstant", desc := "(I)Z" } : Jvm.MethodName)) ∈ lw_tbl := lw_at lw_m12 33 rfl
theorem q2928 : (Jvm.Cond.instanceMethod ({ cls := "WordTongue$Better", name := "isConstant", desc := "(I)Z" } : Jvm.MethodName)) ∈ lw_all := lw_g (lw_at lw_m12 34 rfl) rfl
theorem q2929 : (Jvm.Cond.code ({ cls := "WordTongue$Better", name := "isConstant", desc := "(I)Z" } : Jvm.MethodName) prog_2_method_4_code (2 : Nat) (Option.some Jvm.ClassFile.FieldType.boolean)) ∈ lw_all := lw_g (lw_at lw_m12 35 rfl) rfl
theorem q2930 : (Jvm.Cond.methodLinkNest "WordTongue$Better" (79 : Nat) ({ cls := "WordTongue", name := "operated", desc := "(III)I" } : Jvm.MethodName) "WordTongue") ∈ lw_tbl := lw_at lw_m12 36 rfl
theorem q2931 : (Jvm.Cond.methodLinkNest "WordTongue$Better" (83 : Nat) ({ cls := "WordTongue", name := "holds", desc := "(III)Z" } : Jvm.MethodName) "WordTongue") ∈ lw_tbl := lw_at lw_m12 37 rfl
theorem q2932 : (Jvm.Cond.methodLink "WordTongue$Better" (71 : Nat) ({ cls := "WordTongue$Better", name := "keep", desc := "(II)V" } : Jvm.MethodName)) ∈ lw_all := lw_g (lw_at lw_m12 38 rfl) rfl
theorem q2933 : (Jvm.Cond.privateMethod ({ cls := "WordTongue$Better", name := "keep", desc := "(II)V" } : Jvm.MethodName)) ∈ lw_tbl := lw_at lw_m12 39 rfl
theorem q2934 : (Jvm.Cond.instanceMethod ({ cls := "WordTongue$Better", name := "keep", desc := "(II)V" } : Jvm.MethodName)) ∈ lw_all := lw_g (lw_at lw_m12 40 rfl) rfl
theorem q2935 : (Jvm.Cond.code ({ cls := "WordTongue$Better", name := "keep", desc := "(II)V" } : Jvm.MethodName) prog_2_method_3_code (3 : Nat) (Option.none : Option Jvm.ClassFile.FieldType)) ∈ lw_all := lw_g (lw_at lw_m12 41 rfl) rfl
theorem q2936 : (Jvm.Cond.methodLink "WordTongue$Better" (67 : Nat) ({ cls := "WordTongue$Better", name := "next", desc := "(III)Z" } : Jvm.MethodName)) ∈ lw_all := lw_g (lw_at lw_m12 42 rfl) rfl
theorem q2937 : (Jvm.Cond.privateMethod ({ cls := "WordTongue$Better", name := "next", desc := "(III)Z" } : Jvm.MethodName)) ∈ lw_tbl := lw_at lw_m12 43 rfl
theorem q2938 : (Jvm.Cond.instanceMethod ({ cls := "WordTongue$Better", name := "next", desc := "(III)Z" } : Jvm.MethodName)) ∈ lw_all := lw_g (lw_at lw_m12 44 rfl) rfl
theorem q2939 : (Jvm.Cond.code ({ cls := "WordTongue$Better", name := "next", desc := "(III)Z" } : Jvm.MethodName) prog_2_method_9_code (5 : Nat) (Option.some Jvm.ClassFile.FieldType.boolean)) ∈ lw_all := lw_g (lw_at lw_m12 45 rfl) rfl
theorem q4333 : (Jvm.Cond.castable "WordTongue$Better" "java/lang/Object") ∈ lw_tbl := lw_at lw_m17 239 rfl
theorem in_X5 : ∀ w ∈ wsX50, w ∈ lw_all := lw_in wsX50 [434, 436, 438, 440, 442, 444, 446, 448] (by decide +kernel) (by decide +kernel)
/-! WordTongue$Meaning -/
set_option maxRecDepth 100000
def RX6 : String := "WordTongue$Meaning"
def TX6 : u_T := fun k => match k with
  | 0 => ("WordTongue$Meaning", "sort", "LWordTongue$Sort;", true)
  | 1 => ("WordTongue$Meaning", "value", "I", false)
  | 2 => ("WordTongue$Meaning", "known", "Z", false)
  | 3 => ("WordTongue$Meaning", "taken", "Z", false)
  | 4 => ("WordTongue$Meaning", "isGlobal", "Z", false)
  | 5 => ("WordTongue$Meaning", "place", "I", false)
  | 6 => ("WordTongue$Meaning", "owner", "LWordTongue$Routine;", false)
  | _ => ("WordTongue$Meaning", "within", "Ljava/util/List;", false)
def tyX6 : Nat → FieldType := fun k => match k with
  | 0 => .object "WordTongue$Sort"
  | 1 => .int
  | 2 => .boolean
  | 3 => .boolean
  | 4 => .boolean
  | 5 => .int
  | 6 => .object "WordTongue$Routine"
  | _ => .object "java/util/List"
abbrev wsX60 : List Cond := u_ws RX6 TX6 8
theorem nmX6 : ∀ a, a < 8 → ∀ b, b < 8 → a ≠ b → (TX6 a).2.1 ≠ (TX6 b).2.1 := by decide +kernel
theorem tyX6_ok : ∀ k, k < 8 → parseFieldDescriptor (TX6 k).2.2.1 = some (tyX6 k) := by decide +kernel
abbrev cX6_init : ByteArray := prog_9_method_1_code
def yX6_init : MethodName := ⟨RX6, "<init>", "(LWordTongue$Sort;I)V"⟩
theorem q269 : (Jvm.Cond.initialized "WordTongue$Meaning") ∈ lw_all := lw_g (lw_at lw_m1 15 rfl) rfl
theorem q622 : (Jvm.Cond.instantiable "WordTongue$Meaning" (8 : Nat)) ∈ lw_all := lw_g (lw_at lw_m2 128 rfl) rfl
theorem q627 : (Jvm.Cond.instanceMethod ({ cls := "WordTongue$Meaning", name := "<init>", desc := "(LWordTongue$Sort;I)V" } : Jvm.MethodName)) ∈ lw_all := lw_g (lw_at lw_m2 133 rfl) rfl
theorem q628 : (Jvm.Cond.code ({ cls := "WordTongue$Meaning", name := "<init>", desc := "(LWordTongue$Sort;I)V" } : Jvm.MethodName) prog_9_method_1_code (3 : Nat) (Option.none : Option Jvm.ClassFile.FieldType)) ∈ lw_all := lw_g (lw_at lw_m2 134 rfl) rfl
theorem q629 : (Jvm.Cond.methodLink "WordTongue$Meaning" (1 : Nat) ({ cls := "java/lang/Object", name := "<init>", desc := "()V" } : Jvm.MethodName)) ∈ lw_all := lw_g (lw_at lw_m2 135 rfl) rfl
theorem q630 : (Jvm.Cond.fieldLink "WordTongue$Meaning" (13 : Nat) "WordTongue$Meaning" "sort" "LWordTongue$Sort;") ∈ lw_all := lw_g (lw_at lw_m2 136 rfl) rfl
theorem q632 : (Jvm.Cond.fieldLink "WordTongue$Meaning" (17 : Nat) "WordTongue$Meaning" "value" "I") ∈ lw_all := lw_g (lw_at lw_m2 138 rfl) rfl
theorem q634 : (Jvm.Cond.fieldLink "WordTongue$Meaning" (7 : Nat) "WordTongue$Meaning" "known" "Z") ∈ lw_all := lw_g (lw_at lw_m2 140 rfl) rfl
theorem q641 : (Jvm.Cond.laysFinal "WordTongue$Meaning" "WordTongue$Meaning" "sort" "LWordTongue$Sort;") ∈ lw_all := lw_g (lw_at lw_m2 147 rfl) rfl
theorem q642 : (Jvm.Cond.soleField "WordTongue$Meaning" "sort") ∈ lw_all := lw_g (lw_at lw_m2 148 rfl) rfl
theorem q643 : (Jvm.Cond.lays "WordTongue$Meaning" "WordTongue$Meaning" "value" "I") ∈ lw_all := lw_g (lw_at lw_m2 149 rfl) rfl
theorem q644 : (Jvm.Cond.soleField "WordTongue$Meaning" "value") ∈ lw_all := lw_g (lw_at lw_m2 150 rfl) rfl
theorem q645 : (Jvm.Cond.lays "WordTongue$Meaning" "WordTongue$Meaning" "known" "Z") ∈ lw_all := lw_g (lw_at lw_m2 151 rfl) rfl
theorem q646 : (Jvm.Cond.soleField "WordTongue$Meaning" "known") ∈ lw_all := lw_g (lw_at lw_m2 152 rfl) rfl
theorem q647 : (Jvm.Cond.lays "WordTongue$Meaning" "WordTongue$Meaning" "taken" "Z") ∈ lw_all := lw_g (lw_at lw_m2 153 rfl) rfl
theorem q648 : (Jvm.Cond.soleField "WordTongue$Meaning" "taken") ∈ lw_all := lw_g (lw_at lw_m2 154 rfl) rfl
theorem q649 : (Jvm.Cond.lays "WordTongue$Meaning" "WordTongue$Meaning" "isGlobal" "Z") ∈ lw_all := lw_g (lw_at lw_m2 155 rfl) rfl
theorem q650 : (Jvm.Cond.soleField "WordTongue$Meaning" "isGlobal") ∈ lw_all := lw_g (lw_at lw_m2 156 rfl) rfl
theorem q651 : (Jvm.Cond.lays "WordTongue$Meaning" "WordTongue$Meaning" "place" "I") ∈ lw_all := lw_g (lw_at lw_m2 157 rfl) rfl
theorem q652 : (Jvm.Cond.soleField "WordTongue$Meaning" "place") ∈ lw_all := lw_g (lw_at lw_m2 158 rfl) rfl
theorem q653 : (Jvm.Cond.lays "WordTongue$Meaning" "WordTongue$Meaning" "owner" "LWordTongue$Routine;") ∈ lw_all := lw_g (lw_at lw_m2 159 rfl) rfl
theorem q654 : (Jvm.Cond.soleField "WordTongue$Meaning" "owner") ∈ lw_all := lw_g (lw_at lw_m2 160 rfl) rfl
theorem q655 : (Jvm.Cond.lays "WordTongue$Meaning" "WordTongue$Meaning" "within" "Ljava/util/List;") ∈ lw_all := lw_g (lw_at lw_m2 161 rfl) rfl
theorem q656 : (Jvm.Cond.soleField "WordTongue$Meaning" "within") ∈ lw_all := lw_g (lw_at lw_m2 162 rfl) rfl
theorem q657 : (Jvm.Cond.superclass "WordTongue$Meaning" "java/lang/Object") ∈ lw_all := lw_g (lw_at lw_m2 163 rfl) rfl
theorem q688 : (Jvm.Cond.selects "WordTongue$Meaning" ({ cls := "java/lang/Object", name := "hashCode", desc := "()I" } : Jvm.MethodName) ({ cls := "java/lang/Object", name := "hashCode", desc := "()I" } : Jvm.MethodName)) ∈ lw_all := lw_g (lw_at lw_m2 194 rfl) rfl
theorem q833 : (Jvm.Cond.selects "WordTongue$Meaning" ({ cls := "java/lang/Object", name := "getClass", desc := "()Ljava/lang/Class;" } : Jvm.MethodName) ({ cls := "java/lang/Object", name := "getClass", desc := "()Ljava/lang/Class;" } : Jvm.MethodName)) ∈ lw_all := lw_g (lw_at lw_m3 99 rfl) rfl
theorem q1119 : (Jvm.Cond.selects "WordTongue$Meaning" ({ cls := "java/lang/Object", name := "equals", desc := "(Ljava/lang/Object;)Z" } : Jvm.MethodName) ({ cls := "java/lang/Object", name := "equals", desc := "(Ljava/lang/Object;)Z" } : Jvm.MethodName)) ∈ lw_all := lw_g (lw_at lw_m4 145 rfl) rfl
theorem q4336 : (Jvm.Cond.castable "WordTongue$Meaning" "java/lang/Object") ∈ lw_tbl := lw_at lw_m18 2 rfl
theorem in_X6 : ∀ w ∈ wsX60, w ∈ lw_all := lw_in wsX60 [641, 643, 645, 647, 649, 651, 653, 655] (by decide +kernel) (by decide +kernel)
/-! WordTongue$Stream -/
set_option maxRecDepth 100000
def RX7 : String := "WordTongue$Stream"
def TX7 : u_T := fun k => match k with
  | 0 => ("WordTongue$Stream", "bytes", "[B", true)
  | 1 => ("WordTongue$Stream", "many", "I", false)
  | 2 => ("WordTongue$Stream", "at", "I", false)
  | 3 => ("WordTongue$Stream", "blanks", "[I", true)
  | 4 => ("WordTongue$Stream", "digits", "[I", true)
  | 5 => ("WordTongue$Stream", "value", "[I", true)
  | _ => ("WordTongue$Stream", "tens", "[I", true)
def tyX7 : Nat → FieldType := fun k => match k with
  | 0 => .array .byte
  | 1 => .int
  | 2 => .int
  | 3 => .array .int
  | 4 => .array .int
  | 5 => .array .int
  | _ => .array .int
abbrev wsX70 : List Cond := u_ws RX7 TX7 7
theorem nmX7 : ∀ a, a < 7 → ∀ b, b < 7 → a ≠ b → (TX7 a).2.1 ≠ (TX7 b).2.1 := by decide +kernel
theorem tyX7_ok : ∀ k, k < 7 → parseFieldDescriptor (TX7 k).2.2.1 = some (tyX7 k) := by decide +kernel
abbrev cX7_init : ByteArray := prog_16_method_1_code
def yX7_init : MethodName := ⟨RX7, "<init>", "(IZ)V"⟩
abbrev cX7_begin : ByteArray := prog_16_method_2_code
def yX7_begin : MethodName := ⟨RX7, "begin", "(I)V"⟩
abbrev cX7_isFull : ByteArray := prog_16_method_3_code
def yX7_isFull : MethodName := ⟨RX7, "isFull", "()Z"⟩
abbrev cX7_write : ByteArray := prog_16_method_5_code
def yX7_write : MethodName := ⟨RX7, "write", "(I)V"⟩
abbrev cX7_read : ByteArray := prog_16_method_6_code
def yX7_read : MethodName := ⟨RX7, "read", "()I"⟩
abbrev cX7_number : ByteArray := prog_16_method_4_code
def yX7_number : MethodName := ⟨RX7, "number", "()I"⟩
theorem q281 : (Jvm.Cond.initialized "WordTongue$Stream") ∈ lw_all := lw_g (lw_at lw_m1 27 rfl) rfl
theorem q695 : (Jvm.Cond.selects "WordTongue$Stream" ({ cls := "java/lang/Object", name := "hashCode", desc := "()I" } : Jvm.MethodName) ({ cls := "java/lang/Object", name := "hashCode", desc := "()I" } : Jvm.MethodName)) ∈ lw_all := lw_g (lw_at lw_m2 201 rfl) rfl
theorem q840 : (Jvm.Cond.selects "WordTongue$Stream" ({ cls := "java/lang/Object", name := "getClass", desc := "()Ljava/lang/Class;" } : Jvm.MethodName) ({ cls := "java/lang/Object", name := "getClass", desc := "()Ljava/lang/Class;" } : Jvm.MethodName)) ∈ lw_all := lw_g (lw_at lw_m3 106 rfl) rfl
theorem q1126 : (Jvm.Cond.selects "WordTongue$Stream" ({ cls := "java/lang/Object", name := "equals", desc := "(Ljava/lang/Object;)Z" } : Jvm.MethodName) ({ cls := "java/lang/Object", name := "equals", desc := "(Ljava/lang/Object;)Z" } : Jvm.MethodName)) ∈ lw_all := lw_g (lw_at lw_m4 152 rfl) rfl
theorem q1216 : (Jvm.Cond.instantiable "WordTongue$Stream" (7 : Nat)) ∈ lw_all := lw_g (lw_at lw_m5 2 rfl) rfl
theorem q1218 : (Jvm.Cond.instanceMethod ({ cls := "WordTongue$Stream", name := "<init>", desc := "(IZ)V" } : Jvm.MethodName)) ∈ lw_all := lw_g (lw_at lw_m5 4 rfl) rfl
theorem q1219 : (Jvm.Cond.code ({ cls := "WordTongue$Stream", name := "<init>", desc := "(IZ)V" } : Jvm.MethodName) prog_16_method_1_code (4 : Nat) (Option.none : Option Jvm.ClassFile.FieldType)) ∈ lw_all := lw_g (lw_at lw_m5 5 rfl) rfl
theorem q1220 : (Jvm.Cond.methodLink "WordTongue$Stream" (3 : Nat) ({ cls := "java/lang/Object", name := "<init>", desc := "()V" } : Jvm.MethodName)) ∈ lw_all := lw_g (lw_at lw_m5 6 rfl) rfl
theorem q1221 : (Jvm.Cond.fieldLink "WordTongue$Stream" (9 : Nat) "WordTongue$Stream" "bytes" "[B") ∈ lw_all := lw_g (lw_at lw_m5 7 rfl) rfl
theorem q1223 : (Jvm.Cond.fieldLink "WordTongue$Stream" (28 : Nat) "WordTongue$Stream" "many" "I") ∈ lw_all := lw_g (lw_at lw_m5 9 rfl) rfl
theorem q1225 : (Jvm.Cond.fieldLink "WordTongue$Stream" (32 : Nat) "WordTongue$Stream" "at" "I") ∈ lw_all := lw_g (lw_at lw_m5 11 rfl) rfl
theorem q1227 : (Jvm.Cond.fieldLink "WordTongue$Stream" (15 : Nat) "WordTongue$Stream" "blanks" "[I") ∈ lw_all := lw_g (lw_at lw_m5 13 rfl) rfl
theorem q1228 : (Jvm.Cond.fieldLink "WordTongue$Stream" (19 : Nat) "WordTongue$Stream" "digits" "[I") ∈ lw_all := lw_g (lw_at lw_m5 14 rfl) rfl
theorem q1229 : (Jvm.Cond.fieldLink "WordTongue$Stream" (22 : Nat) "WordTongue$Stream" "value" "[I") ∈ lw_all := lw_g (lw_at lw_m5 15 rfl) rfl
theorem q1230 : (Jvm.Cond.fieldLink "WordTongue$Stream" (25 : Nat) "WordTongue$Stream" "tens" "[I") ∈ lw_all := lw_g (lw_at lw_m5 16 rfl) rfl
theorem q1231 : (Jvm.Cond.laysFinal "WordTongue$Stream" "WordTongue$Stream" "bytes" "[B") ∈ lw_all := lw_g (lw_at lw_m5 17 rfl) rfl
theorem q1232 : (Jvm.Cond.soleField "WordTongue$Stream" "bytes") ∈ lw_all := lw_g (lw_at lw_m5 18 rfl) rfl
theorem q1233 : (Jvm.Cond.lays "WordTongue$Stream" "WordTongue$Stream" "many" "I") ∈ lw_all := lw_g (lw_at lw_m5 19 rfl) rfl
theorem q1234 : (Jvm.Cond.soleField "WordTongue$Stream" "many") ∈ lw_all := lw_g (lw_at lw_m5 20 rfl) rfl
theorem q1235 : (Jvm.Cond.lays "WordTongue$Stream" "WordTongue$Stream" "at" "I") ∈ lw_all := lw_g (lw_at lw_m5 21 rfl) rfl
theorem q1236 : (Jvm.Cond.soleField "WordTongue$Stream" "at") ∈ lw_all := lw_g (lw_at lw_m5 22 rfl) rfl
theorem q1237 : (Jvm.Cond.laysFinal "WordTongue$Stream" "WordTongue$Stream" "blanks" "[I") ∈ lw_all := lw_g (lw_at lw_m5 23 rfl) rfl
theorem q1238 : (Jvm.Cond.soleField "WordTongue$Stream" "blanks") ∈ lw_all := lw_g (lw_at lw_m5 24 rfl) rfl
theorem q1239 : (Jvm.Cond.laysFinal "WordTongue$Stream" "WordTongue$Stream" "digits" "[I") ∈ lw_all := lw_g (lw_at lw_m5 25 rfl) rfl
theorem q1240 : (Jvm.Cond.soleField "WordTongue$Stream" "digits") ∈ lw_all := lw_g (lw_at lw_m5 26 rfl) rfl
theorem q1241 : (Jvm.Cond.laysFinal "WordTongue$Stream" "WordTongue$Stream" "value" "[I") ∈ lw_all := lw_g (lw_at lw_m5 27 rfl) rfl
theorem q1242 : (Jvm.Cond.soleField "WordTongue$Stream" "value") ∈ lw_all := lw_g (lw_at lw_m5 28 rfl) rfl
theorem q1243 : (Jvm.Cond.laysFinal "WordTongue$Stream" "WordTongue$Stream" "tens" "[I") ∈ lw_all := lw_g (lw_at lw_m5 29 rfl) rfl
theorem q1244 : (Jvm.Cond.soleField "WordTongue$Stream" "tens") ∈ lw_all := lw_g (lw_at lw_m5 30 rfl) rfl
theorem q1245 : (Jvm.Cond.superclass "WordTongue$Stream" "java/lang/Object") ∈ lw_all := lw_g (lw_at lw_m5 31 rfl) rfl
theorem q3118 : (Jvm.Cond.instanceMethod ({ cls := "WordTongue$Stream", name := "begin", desc := "(I)V" } : Jvm.MethodName)) ∈ lw_all := lw_g (lw_at lw_m12 224 rfl) rfl
theorem q3119 : (Jvm.Cond.selects "WordTongue$Stream" ({ cls := "WordTongue$Stream", name := "begin", desc := "(I)V" } : Jvm.MethodName) ({ cls := "WordTongue$Stream", name := "begin", desc := "(I)V" } : Jvm.MethodName)) ∈ lw_all := lw_g (lw_at lw_m12 225 rfl) rfl
theorem q3120 : (Jvm.Cond.code ({ cls := "WordTongue$Stream", name := "begin", desc := "(I)V" } : Jvm.MethodName) prog_16_method_2_code (5 : Nat) (Option.none : Option Jvm.ClassFile.FieldType)) ∈ lw_all := lw_g (lw_at lw_m12 226 rfl) rfl
theorem q3193 : (Jvm.Cond.instanceMethod ({ cls := "WordTongue$Stream", name := "isFull", desc := "()Z" } : Jvm.MethodName)) ∈ lw_all := lw_g (lw_at lw_m13 59 rfl) rfl
theorem q3194 : (Jvm.Cond.selects "WordTongue$Stream" ({ cls := "WordTongue$Stream", name := "isFull", desc := "()Z" } : Jvm.MethodName) ({ cls := "WordTongue$Stream", name := "isFull", desc := "()Z" } : Jvm.MethodName)) ∈ lw_all := lw_g (lw_at lw_m13 60 rfl) rfl
theorem q3195 : (Jvm.Cond.code ({ cls := "WordTongue$Stream", name := "isFull", desc := "()Z" } : Jvm.MethodName) prog_16_method_3_code (1 : Nat) (Option.some Jvm.ClassFile.FieldType.boolean)) ∈ lw_all := lw_g (lw_at lw_m13 61 rfl) rfl
theorem q3204 : (Jvm.Cond.instanceMethod ({ cls := "WordTongue$Stream", name := "write", desc := "(I)V" } : Jvm.MethodName)) ∈ lw_all := lw_g (lw_at lw_m13 70 rfl) rfl
theorem q3205 : (Jvm.Cond.selects "WordTongue$Stream" ({ cls := "WordTongue$Stream", name := "write", desc := "(I)V" } : Jvm.MethodName) ({ cls := "WordTongue$Stream", name := "write", desc := "(I)V" } : Jvm.MethodName)) ∈ lw_all := lw_g (lw_at lw_m13 71 rfl) rfl
theorem q3206 : (Jvm.Cond.code ({ cls := "WordTongue$Stream", name := "write", desc := "(I)V" } : Jvm.MethodName) prog_16_method_5_code (2 : Nat) (Option.none : Option Jvm.ClassFile.FieldType)) ∈ lw_all := lw_g (lw_at lw_m13 72 rfl) rfl
theorem q3235 : (Jvm.Cond.instanceMethod ({ cls := "WordTongue$Stream", name := "read", desc := "()I" } : Jvm.MethodName)) ∈ lw_all := lw_g (lw_at lw_m13 101 rfl) rfl
theorem q3236 : (Jvm.Cond.selects "WordTongue$Stream" ({ cls := "WordTongue$Stream", name := "read", desc := "()I" } : Jvm.MethodName) ({ cls := "WordTongue$Stream", name := "read", desc := "()I" } : Jvm.MethodName)) ∈ lw_all := lw_g (lw_at lw_m13 102 rfl) rfl
theorem q3237 : (Jvm.Cond.code ({ cls := "WordTongue$Stream", name := "read", desc := "()I" } : Jvm.MethodName) prog_16_method_6_code (1 : Nat) (Option.some Jvm.ClassFile.FieldType.int)) ∈ lw_all := lw_g (lw_at lw_m13 103 rfl) rfl
theorem q3244 : (Jvm.Cond.instanceMethod ({ cls := "WordTongue$Stream", name := "number", desc := "()I" } : Jvm.MethodName)) ∈ lw_all := lw_g (lw_at lw_m13 110 rfl) rfl
theorem q3245 : (Jvm.Cond.selects "WordTongue$Stream" ({ cls := "WordTongue$Stream", name := "number", desc := "()I" } : Jvm.MethodName) ({ cls := "WordTongue$Stream", name := "number", desc := "()I" } : Jvm.MethodName)) ∈ lw_all := lw_g (lw_at lw_m13 111 rfl) rfl
theorem q3246 : (Jvm.Cond.code ({ cls := "WordTongue$Stream", name := "number", desc := "()I" } : Jvm.MethodName) prog_16_method_4_code (3 : Nat) (Option.some Jvm.ClassFile.FieldType.int)) ∈ lw_all := lw_g (lw_at lw_m13 112 rfl) rfl
theorem q4328 : (Jvm.Cond.castable "WordTongue$Stream" "java/lang/Object") ∈ lw_tbl := lw_at lw_m17 234 rfl
theorem in_X7 : ∀ w ∈ wsX70, w ∈ lw_all := lw_in wsX70 [1231, 1233, 1235, 1237, 1239, 1241, 1243] (by decide +kernel) (by decide +kernel)
/-! WordTongueModel -/
set_option maxRecDepth 100000
def RX8 : String := "WordTongueModel"
def TX8 : u_T := fun k => match k with
  | 0 => ("WordTongueModel", "thrownCode", "I", false)
  | 1 => ("WordTongueModel", "tape", "[B", true)
  | 2 => ("WordTongueModel", "tapeLen", "I", false)
  | 3 => ("WordTongueModel", "src", "[B", true)
  | 4 => ("WordTongueModel", "srcLen", "I", false)
  | 5 => ("WordTongueModel", "names", "I", false)
  | 6 => ("WordTongueModel", "nameAt", "[I", true)
  | 7 => ("WordTongueModel", "nameLen", "[I", true)
  | 8 => ("WordTongueModel", "tokens", "I", false)
  | 9 => ("WordTongueModel", "tKind", "[I", true)
  | 10 => ("WordTongueModel", "tAt", "[I", true)
  | 11 => ("WordTongueModel", "tValue", "[I", true)
  | 12 => ("WordTongueModel", "faultOf", "I", false)
  | 13 => ("WordTongueModel", "faultAt", "I", false)
  | 14 => ("WordTongueModel", "strs", "[B", true)
  | 15 => ("WordTongueModel", "strsLen", "I", false)
  | 16 => ("WordTongueModel", "strAt", "[I", true)
  | 17 => ("WordTongueModel", "strLen", "[I", true)
  | 18 => ("WordTongueModel", "strCount", "I", false)
  | 19 => ("WordTongueModel", "line", "I", false)
  | 20 => ("WordTongueModel", "lastLine", "I", false)
  | 21 => ("WordTongueModel", "cValue", "I", false)
  | 22 => ("WordTongueModel", "number", "I", false)
  | 23 => ("WordTongueModel", "signLen", "I", false)
  | 24 => ("WordTongueModel", "nodes", "I", false)
  | 25 => ("WordTongueModel", "nKind", "[B", true)
  | 26 => ("WordTongueModel", "nTok", "[I", true)
  | 27 => ("WordTongueModel", "nChild", "[I", true)
  | 28 => ("WordTongueModel", "nNext", "[I", true)
  | 29 => ("WordTongueModel", "nA", "[I", true)
  | 30 => ("WordTongueModel", "nB", "[I", true)
  | 31 => ("WordTongueModel", "nC", "[I", true)
  | 32 => ("WordTongueModel", "nPair", "[I", true)
  | 33 => ("WordTongueModel", "nRel", "[I", true)
  | 34 => ("WordTongueModel", "nFirst", "[I", true)
  | 35 => ("WordTongueModel", "nParen", "[Z", true)
  | 36 => ("WordTongueModel", "out", "[I", true)
  | 37 => ("WordTongueModel", "outs", "I", false)
  | 38 => ("WordTongueModel", "goals", "I", false)
  | 39 => ("WordTongueModel", "gKind", "[I", true)
  | 40 => ("WordTongueModel", "gX", "[I", true)
  | 41 => ("WordTongueModel", "gY", "[I", true)
  | 42 => ("WordTongueModel", "gZ", "[I", true)
  | 43 => ("WordTongueModel", "at", "I", false)
  | 44 => ("WordTongueModel", "depth", "I", false)
  | 45 => ("WordTongueModel", "sections", "I", false)
  | 46 => ("WordTongueModel", "secTag", "[I", true)
  | 47 => ("WordTongueModel", "secDepth", "[I", true)
  | 48 => ("WordTongueModel", "lexEnd", "I", false)
  | 49 => ("WordTongueModel", "entries", "I", false)
  | 50 => ("WordTongueModel", "eName", "[I", true)
  | 51 => ("WordTongueModel", "eKind", "[I", true)
  | 52 => ("WordTongueModel", "eValue", "[I", true)
  | 53 => ("WordTongueModel", "eState", "[I", true)
  | 54 => ("WordTongueModel", "eOther", "[I", true)
  | 55 => ("WordTongueModel", "blockBase", "I", false)
  | 56 => ("WordTongueModel", "libName", "[I", true)
  | 57 => ("WordTongueModel", "eTok", "[I", true)
  | 58 => ("WordTongueModel", "kGood", "Z", false)
  | 59 => ("WordTongueModel", "kValue", "I", false)
  | 60 => ("WordTongueModel", "walk", "[I", true)
  | 61 => ("WordTongueModel", "step", "[I", true)
  | 62 => ("WordTongueModel", "kWork", "[I", true)
  | 63 => ("WordTongueModel", "tasks", "I", false)
  | 64 => ("WordTongueModel", "cTask", "[I", true)
  | 65 => ("WordTongueModel", "cNode", "[I", true)
  | 66 => ("WordTongueModel", "cAux", "[I", true)
  | 67 => ("WordTongueModel", "saved", "I", false)
  | 68 => ("WordTongueModel", "save", "[I", true)
  | 69 => ("WordTongueModel", "routines", "I", false)
  | 70 => ("WordTongueModel", "rMax", "[I", true)
  | 71 => ("WordTongueModel", "rParams", "[I", true)
  | 72 => ("WordTongueModel", "rBody", "[I", true)
  | 73 => ("WordTongueModel", "routine", "I", false)
  | 74 => ("WordTongueModel", "inUse", "I", false)
  | 75 => ("WordTongueModel", "mostUse", "I", false)
  | 76 => ("WordTongueModel", "gives", "Z", false)
  | 77 => ("WordTongueModel", "valof", "I", false)
  | 78 => ("WordTongueModel", "valofs", "I", false)
  | 79 => ("WordTongueModel", "loops", "I", false)
  | 80 => ("WordTongueModel", "switches", "I", false)
  | 81 => ("WordTongueModel", "words", "I", false)
  | 82 => ("WordTongueModel", "start", "I", false)
  | 83 => ("WordTongueModel", "startName", "I", false)
  | 84 => ("WordTongueModel", "inits", "I", false)
  | 85 => ("WordTongueModel", "initAt", "[I", true)
  | 86 => ("WordTongueModel", "initValue", "[I", true)
  | 87 => ("WordTongueModel", "todo", "I", false)
  | 88 => ("WordTongueModel", "xTask", "[I", false)
  | 89 => ("WordTongueModel", "xNode", "[I", false)
  | 90 => ("WordTongueModel", "xAux", "[I", false)
  | 91 => ("WordTongueModel", "vals", "I", false)
  | 92 => ("WordTongueModel", "val", "[I", false)
  | 93 => ("WordTongueModel", "backB", "[I", true)
  | 94 => ("WordTongueModel", "backR", "[I", true)
  | 95 => ("WordTongueModel", "under", "I", false)
  | 96 => ("WordTongueModel", "base", "I", false)
  | 97 => ("WordTongueModel", "running", "I", false)
  | 98 => ("WordTongueModel", "store", "[I", true)
  | 99 => ("WordTongueModel", "size", "I", false)
  | 100 => ("WordTongueModel", "wanted", "I", false)
  | 101 => ("WordTongueModel", "fuelLeft", "I", false)
  | 102 => ("WordTongueModel", "ended", "Z", false)
  | 103 => ("WordTongueModel", "answer", "I", false)
  | 104 => ("WordTongueModel", "result", "I", false)
  | 105 => ("WordTongueModel", "compiled", "Z", false)
  | 106 => ("WordTongueModel", "gots", "I", false)
  | 107 => ("WordTongueModel", "gotAt", "[I", true)
  | 108 => ("WordTongueModel", "gotLen", "[I", true)
  | 109 => ("WordTongueModel", "input", "[B", true)
  | 110 => ("WordTongueModel", "runEnd", "[I", true)
  | 111 => ("WordTongueModel", "digitsFrom", "[I", true)
  | 112 => ("WordTongueModel", "inLen", "[I", true)
  | 113 => ("WordTongueModel", "inAt", "[I", true)
  | 114 => ("WordTongueModel", "inNow", "I", false)
  | 115 => ("WordTongueModel", "output", "[B", true)
  | 116 => ("WordTongueModel", "outLen", "[I", true)
  | 117 => ("WordTongueModel", "outNow", "I", false)
  | _ => ("WordTongueModel", "figures", "[B", true)
def tyX8 : Nat → FieldType := fun k => match k with
  | 0 => .int
  | 1 => .array .byte
  | 2 => .int
  | 3 => .array .byte
  | 4 => .int
  | 5 => .int
  | 6 => .array .int
  | 7 => .array .int
  | 8 => .int
  | 9 => .array .int
  | 10 => .array .int
  | 11 => .array .int
  | 12 => .int
  | 13 => .int
  | 14 => .array .byte
  | 15 => .int
  | 16 => .array .int
  | 17 => .array .int
  | 18 => .int
  | 19 => .int
  | 20 => .int
  | 21 => .int
  | 22 => .int
  | 23 => .int
  | 24 => .int
  | 25 => .array .byte
  | 26 => .array .int
  | 27 => .array .int
  | 28 => .array .int
  | 29 => .array .int
  | 30 => .array .int
  | 31 => .array .int
  | 32 => .array .int
  | 33 => .array .int
  | 34 => .array .int
  | 35 => .array .boolean
  | 36 => .array .int
  | 37 => .int
  | 38 => .int
  | 39 => .array .int
  | 40 => .array .int
  | 41 => .array .int
  | 42 => .array .int
  | 43 => .int
  | 44 => .int
  | 45 => .int
  | 46 => .array .int
  | 47 => .array .int
  | 48 => .int
  | 49 => .int
  | 50 => .array .int
  | 51 => .array .int
  | 52 => .array .int
  | 53 => .array .int
  | 54 => .array .int
  | 55 => .int
  | 56 => .array .int
  | 57 => .array .int
  | 58 => .boolean
  | 59 => .int
  | 60 => .array .int
  | 61 => .array .int
  | 62 => .array .int
  | 63 => .int
  | 64 => .array .int
  | 65 => .array .int
  | 66 => .array .int
  | 67 => .int
  | 68 => .array .int
  | 69 => .int
  | 70 => .array .int
  | 71 => .array .int
  | 72 => .array .int
  | 73 => .int
  | 74 => .int
  | 75 => .int
  | 76 => .boolean
  | 77 => .int
  | 78 => .int
  | 79 => .int
  | 80 => .int
  | 81 => .int
  | 82 => .int
  | 83 => .int
  | 84 => .int
  | 85 => .array .int
  | 86 => .array .int
  | 87 => .int
  | 88 => .array .int
  | 89 => .array .int
  | 90 => .array .int
  | 91 => .int
  | 92 => .array .int
  | 93 => .array .int
  | 94 => .array .int
  | 95 => .int
  | 96 => .int
  | 97 => .int
  | 98 => .array .int
  | 99 => .int
  | 100 => .int
  | 101 => .int
  | 102 => .boolean
  | 103 => .int
  | 104 => .int
  | 105 => .boolean
  | 106 => .int
  | 107 => .array .int
  | 108 => .array .int
  | 109 => .array .byte
  | 110 => .array .int
  | 111 => .array .int
  | 112 => .array .int
  | 113 => .array .int
  | 114 => .int
  | 115 => .array .byte
  | 116 => .array .int
  | 117 => .int
  | _ => .array .byte
abbrev wsX80 : List Cond := u_ws RX8 TX8 119
set_option maxRecDepth 100000 in
theorem nmX8 : ∀ a, a < 119 → ∀ b, b < 119 → a ≠ b → (TX8 a).2.1 ≠ (TX8 b).2.1 := by decide +kernel
set_option maxRecDepth 100000 in
theorem tyX8_ok : ∀ k, k < 119 → parseFieldDescriptor (TX8 k).2.2.1 = some (tyX8 k) := by decide +kernel
abbrev cX8_init : ByteArray := prog_20_method_1_code
def yX8_init : MethodName := ⟨RX8, "<init>", "()V"⟩
abbrev cX8_thrown : ByteArray := prog_20_method_2_code
def yX8_thrown : MethodName := ⟨RX8, "thrown", "()I"⟩
abbrev cX8_feed : ByteArray := prog_20_method_134_code
def yX8_feed : MethodName := ⟨RX8, "feed", "(IIIII)Z"⟩
abbrev cX8_end : ByteArray := prog_20_method_135_code
def yX8_end : MethodName := ⟨RX8, "end", "(I)Z"⟩
abbrev cX8_compile : ByteArray := prog_20_method_136_code
def yX8_compile : MethodName := ⟨RX8, "compile", "()I"⟩
abbrev cX8_scan : ByteArray := prog_20_method_19_code
def yX8_scan : MethodName := ⟨RX8, "scan", "()I"⟩
abbrev cX8_look : ByteArray := prog_20_method_9_code
def yX8_look : MethodName := ⟨RX8, "look", "(I)I"⟩
abbrev cX8_isPair : ByteArray := prog_20_method_17_code
def yX8_isPair : MethodName := ⟨RX8, "isPair", "(III)Z"⟩
abbrev cX8_one : ByteArray := prog_20_method_20_code
def yX8_one : MethodName := ⟨RX8, "one", "(II)I"⟩
abbrev cX8_isLetter : ByteArray := prog_20_method_6_code
def yX8_isLetter : MethodName := ⟨RX8, "isLetter", "(I)Z"⟩
abbrev cX8_isRest : ByteArray := prog_20_method_8_code
def yX8_isRest : MethodName := ⟨RX8, "isRest", "(I)Z"⟩
abbrev cX8_isDigit : ByteArray := prog_20_method_7_code
def yX8_isDigit : MethodName := ⟨RX8, "isDigit", "(I)Z"⟩
abbrev cX8_keyword : ByteArray := prog_20_method_5_code
def yX8_keyword : MethodName := ⟨RX8, "keyword", "(II)I"⟩
abbrev cX8_isText : ByteArray := prog_20_method_4_code
def yX8_isText : MethodName := ⟨RX8, "isText", "(IIJJ)Z"⟩
abbrev cX8_nameOf : ByteArray := prog_20_method_3_code
def yX8_nameOf : MethodName := ⟨RX8, "nameOf", "(II)I"⟩
abbrev cX8_token : ByteArray := prog_20_method_13_code
def yX8_token : MethodName := ⟨RX8, "token", "(III)V"⟩
abbrev cX8_endsLine : ByteArray := prog_20_method_10_code
def yX8_endsLine : MethodName := ⟨RX8, "endsLine", "(I)Z"⟩
abbrev cX8_isBeginning : ByteArray := prog_20_method_11_code
def yX8_isBeginning : MethodName := ⟨RX8, "isBeginning", "(I)Z"⟩
abbrev cX8_isDoless : ByteArray := prog_20_method_12_code
def yX8_isDoless : MethodName := ⟨RX8, "isDoless", "(I)Z"⟩
abbrev cX8_digits : ByteArray := prog_20_method_16_code
def yX8_digits : MethodName := ⟨RX8, "digits", "(II)I"⟩
abbrev cX8_oneC : ByteArray := prog_20_method_14_code
def yX8_oneC : MethodName := ⟨RX8, "oneC", "(II)I"⟩
abbrev cX8_stringAt : ByteArray := prog_20_method_15_code
def yX8_stringAt : MethodName := ⟨RX8, "stringAt", "(I)I"⟩
abbrev cX8_signAt : ByteArray := prog_20_method_18_code
def yX8_signAt : MethodName := ⟨RX8, "signAt", "(I)I"⟩
abbrev cX8_parse : ByteArray := prog_20_method_33_code
def yX8_parse : MethodName := ⟨RX8, "parse", "()Z"⟩
abbrev cX8_goal : ByteArray := prog_20_method_25_code
def yX8_goal : MethodName := ⟨RX8, "goal", "(IIII)V"⟩
abbrev cX8_reach : ByteArray := prog_20_method_34_code
def yX8_reach : MethodName := ⟨RX8, "reach", "(IIII)Z"⟩
abbrev cX8_reachE : ByteArray := prog_20_method_42_code
def yX8_reachE : MethodName := ⟨RX8, "reachE", "(IIII)Z"⟩
abbrev cX8_tk : ByteArray := prog_20_method_26_code
def yX8_tk : MethodName := ⟨RX8, "tk", "()I"⟩
abbrev cX8_deeper : ByteArray := prog_20_method_29_code
def yX8_deeper : MethodName := ⟨RX8, "deeper", "()Z"⟩
abbrev cX8_take : ByteArray := prog_20_method_28_code
def yX8_take : MethodName := ⟨RX8, "take", "(I)Z"⟩
abbrev cX8_shut : ByteArray := prog_20_method_23_code
def yX8_shut : MethodName := ⟨RX8, "shut", "(IIII)I"⟩
abbrev cX8_node : ByteArray := prog_20_method_21_code
def yX8_node : MethodName := ⟨RX8, "node", "(III)I"⟩
abbrev cX8_levelOf : ByteArray := prog_20_method_41_code
def yX8_levelOf : MethodName := ⟨RX8, "levelOf", "(I)I"⟩
abbrev cX8_binary : ByteArray := prog_20_method_45_code
def yX8_binary : MethodName := ⟨RX8, "binary", "(III)V"⟩
abbrev cX8_calls : ByteArray := prog_20_method_43_code
def yX8_calls : MethodName := ⟨RX8, "calls", "(III)Z"⟩
abbrev cX8_primary : ByteArray := prog_20_method_44_code
def yX8_primary : MethodName := ⟨RX8, "primary", "(II)Z"⟩
abbrev cX8_leaf : ByteArray := prog_20_method_22_code
def yX8_leaf : MethodName := ⟨RX8, "leaf", "(III)V"⟩
abbrev cX8_openSection : ByteArray := prog_20_method_31_code
def yX8_openSection : MethodName := ⟨RX8, "openSection", "()Z"⟩
abbrev cX8_reachD : ByteArray := prog_20_method_35_code
def yX8_reachD : MethodName := ⟨RX8, "reachD", "(IIII)Z"⟩
abbrev cX8_isD : ByteArray := prog_20_method_30_code
def yX8_isD : MethodName := ⟨RX8, "isD", "(I)Z"⟩
abbrev cX8_shutSection : ByteArray := prog_20_method_32_code
def yX8_shutSection : MethodName := ⟨RX8, "shutSection", "()Z"⟩
abbrev cX8_reachP : ByteArray := prog_20_method_36_code
def yX8_reachP : MethodName := ⟨RX8, "reachP", "(I)Z"⟩
abbrev cX8_reachC : ByteArray := prog_20_method_38_code
def yX8_reachC : MethodName := ⟨RX8, "reachC", "(IIII)Z"⟩
abbrev cX8_command : ByteArray := prog_20_method_40_code
def yX8_command : MethodName := ⟨RX8, "command", "(III)Z"⟩
abbrev cX8_beginsE : ByteArray := prog_20_method_37_code
def yX8_beginsE : MethodName := ⟨RX8, "beginsE", "(I)Z"⟩
abbrev cX8_labels : ByteArray := prog_20_method_39_code
def yX8_labels : MethodName := ⟨RX8, "labels", "(I)V"⟩
abbrev cX8_tkNext : ByteArray := prog_20_method_27_code
def yX8_tkNext : MethodName := ⟨RX8, "tkNext", "()I"⟩
abbrev cX8_pairs : ByteArray := prog_20_method_24_code
def yX8_pairs : MethodName := ⟨RX8, "pairs", "(I)V"⟩
abbrev cX8_fault : ByteArray := prog_20_method_46_code
def yX8_fault : MethodName := ⟨RX8, "fault", "(II)V"⟩
abbrev cX8_check : ByteArray := prog_20_method_70_code
def yX8_check : MethodName := ⟨RX8, "check", "()V"⟩
abbrev cX8_library : ByteArray := prog_20_method_68_code
def yX8_library : MethodName := ⟨RX8, "library", "()V"⟩
abbrev cX8_lib : ByteArray := prog_20_method_69_code
def yX8_lib : MethodName := ⟨RX8, "lib", "(JJI)V"⟩
abbrev cX8_entry : ByteArray := prog_20_method_49_code
def yX8_entry : MethodName := ⟨RX8, "entry", "(IIIII)I"⟩
abbrev cX8_children : ByteArray := prog_20_method_66_code
def yX8_children : MethodName := ⟨RX8, "children", "(II)V"⟩
abbrev cX8_task : ByteArray := prog_20_method_62_code
def yX8_task : MethodName := ⟨RX8, "task", "(III)V"⟩
abbrev cX8_turn : ByteArray := prog_20_method_67_code
def yX8_turn : MethodName := ⟨RX8, "turn", "(I)V"⟩
abbrev cX8_go : ByteArray := prog_20_method_71_code
def yX8_go : MethodName := ⟨RX8, "go", "(III)V"⟩
abbrev cX8_declaration : ByteArray := prog_20_method_73_code
def yX8_declaration : MethodName := ⟨RX8, "declaration", "(I)V"⟩
abbrev cX8_letRoutines : ByteArray := prog_20_method_74_code
def yX8_letRoutines : MethodName := ⟨RX8, "letRoutines", "(I)V"⟩
abbrev cX8_nameToken : ByteArray := prog_20_method_72_code
def yX8_nameToken : MethodName := ⟨RX8, "nameToken", "(I)I"⟩
abbrev cX8_means : ByteArray := prog_20_method_48_code
def yX8_means : MethodName := ⟨RX8, "means", "(I)I"⟩
abbrev cX8_place : ByteArray := prog_20_method_47_code
def yX8_place : MethodName := ⟨RX8, "place", "(I)I"⟩
abbrev cX8_declare : ByteArray := prog_20_method_50_code
def yX8_declare : MethodName := ⟨RX8, "declare", "(IIIIII)I"⟩
abbrev cX8_tokenOfTwice : ByteArray := prog_20_method_51_code
def yX8_tokenOfTwice : MethodName := ⟨RX8, "tokenOfTwice", "(II)I"⟩
abbrev cX8_constant : ByteArray := prog_20_method_60_code
def yX8_constant : MethodName := ⟨RX8, "constant", "(I)V"⟩
abbrev cX8_isK : ByteArray := prog_20_method_52_code
def yX8_isK : MethodName := ⟨RX8, "isK", "(I)Z"⟩
abbrev cX8_isKName : ByteArray := prog_20_method_53_code
def yX8_isKName : MethodName := ⟨RX8, "isKName", "(I)Z"⟩
abbrev cX8_later : ByteArray := prog_20_method_61_code
def yX8_later : MethodName := ⟨RX8, "later", "(II)I"⟩
abbrev cX8_signed : ByteArray := prog_20_method_59_code
def yX8_signed : MethodName := ⟨RX8, "signed", "(II)I"⟩
abbrev cX8_related : ByteArray := prog_20_method_58_code
def yX8_related : MethodName := ⟨RX8, "related", "(III)Z"⟩
abbrev cX8_worked : ByteArray := prog_20_method_57_code
def yX8_worked : MethodName := ⟨RX8, "worked", "(III)I"⟩
abbrev cX8_quotient : ByteArray := prog_20_method_55_code
def yX8_quotient : MethodName := ⟨RX8, "quotient", "(II)I"⟩
abbrev cX8_remainder : ByteArray := prog_20_method_56_code
def yX8_remainder : MethodName := ⟨RX8, "remainder", "(II)I"⟩
abbrev cX8_shifted : ByteArray := prog_20_method_54_code
def yX8_shifted : MethodName := ⟨RX8, "shifted", "(IIZ)I"⟩
abbrev cX8_init_2 : ByteArray := prog_20_method_65_code
def yX8_init_2 : MethodName := ⟨RX8, "init", "(II)V"⟩
abbrev cX8_commandOf : ByteArray := prog_20_method_86_code
def yX8_commandOf : MethodName := ⟨RX8, "commandOf", "(I)V"⟩
abbrev cX8_beginBlock : ByteArray := prog_20_method_80_code
def yX8_beginBlock : MethodName := ⟨RX8, "beginBlock", "()V"⟩
abbrev cX8_put : ByteArray := prog_20_method_63_code
def yX8_put : MethodName := ⟨RX8, "put", "(I)V"⟩
abbrev cX8_labelsOf : ByteArray := prog_20_method_81_code
def yX8_labelsOf : MethodName := ⟨RX8, "labelsOf", "(I)V"⟩
abbrev cX8_goesTo : ByteArray := prog_20_method_87_code
def yX8_goesTo : MethodName := ⟨RX8, "goesTo", "(I)V"⟩
abbrev cX8_expressionOf : ByteArray := prog_20_method_90_code
def yX8_expressionOf : MethodName := ⟨RX8, "expressionOf", "(I)V"⟩
abbrev cX8_named : ByteArray := prog_20_method_88_code
def yX8_named : MethodName := ⟨RX8, "named", "(I)I"⟩
abbrev cX8_string : ByteArray := prog_20_method_91_code
def yX8_string : MethodName := ⟨RX8, "string", "(I)V"⟩
abbrev cX8_placeOf : ByteArray := prog_20_method_89_code
def yX8_placeOf : MethodName := ⟨RX8, "placeOf", "(IZ)V"⟩
abbrev cX8_routineOf : ByteArray := prog_20_method_75_code
def yX8_routineOf : MethodName := ⟨RX8, "routineOf", "(II)V"⟩
abbrev cX8_routineEnds : ByteArray := prog_20_method_76_code
def yX8_routineEnds : MethodName := ⟨RX8, "routineEnds", "(I)V"⟩
abbrev cX8_pull : ByteArray := prog_20_method_64_code
def yX8_pull : MethodName := ⟨RX8, "pull", "()I"⟩
abbrev cX8_varsEnd : ByteArray := prog_20_method_78_code
def yX8_varsEnd : MethodName := ⟨RX8, "varsEnd", "(I)V"⟩
abbrev cX8_uses : ByteArray := prog_20_method_77_code
def yX8_uses : MethodName := ⟨RX8, "uses", "(I)V"⟩
abbrev cX8_blockEnds : ByteArray := prog_20_method_79_code
def yX8_blockEnds : MethodName := ⟨RX8, "blockEnds", "(I)V"⟩
abbrev cX8_forName : ByteArray := prog_20_method_82_code
def yX8_forName : MethodName := ⟨RX8, "forName", "(I)V"⟩
abbrev cX8_switchOf : ByteArray := prog_20_method_83_code
def yX8_switchOf : MethodName := ⟨RX8, "switchOf", "(I)V"⟩
abbrev cX8_isTwice : ByteArray := prog_20_method_84_code
def yX8_isTwice : MethodName := ⟨RX8, "isTwice", "(II)Z"⟩
abbrev cX8_part : ByteArray := prog_20_method_85_code
def yX8_part : MethodName := ⟨RX8, "part", "(I)V"⟩
abbrev cX8_fault_2 : ByteArray := prog_20_method_137_code
def yX8_fault_2 : MethodName := ⟨RX8, "fault", "()I"⟩
abbrev cX8_store : ByteArray := prog_20_method_138_code
def yX8_store : MethodName := ⟨RX8, "store", "(I)Z"⟩
abbrev cX8_input : ByteArray := prog_20_method_139_code
def yX8_input : MethodName := ⟨RX8, "input", "(I)I"⟩
abbrev cX8_rowsOf : ByteArray := prog_20_method_116_code
def yX8_rowsOf : MethodName := ⟨RX8, "rowsOf", "(I)V"⟩
abbrev cX8_isBlank : ByteArray := prog_20_method_115_code
def yX8_isBlank : MethodName := ⟨RX8, "isBlank", "(I)Z"⟩
abbrev cX8_run : ByteArray := prog_20_method_140_code
def yX8_run : MethodName := ⟨RX8, "run", "(I)I"⟩
abbrev cX8_enter : ByteArray := prog_20_method_107_code
def yX8_enter : MethodName := ⟨RX8, "enter", "(III)V"⟩
abbrev cX8_burns : ByteArray := prog_20_method_95_code
def yX8_burns : MethodName := ⟨RX8, "burns", "()Z"⟩
abbrev cX8_err : ByteArray := prog_20_method_94_code
def yX8_err : MethodName := ⟨RX8, "err", "(I)V"⟩
abbrev cX8_limit : ByteArray := prog_20_method_106_code
def yX8_limit : MethodName := ⟨RX8, "limit", "()I"⟩
abbrev cX8_todoTask : ByteArray := prog_20_method_93_code
def yX8_todoTask : MethodName := ⟨RX8, "todoTask", "(III)V"⟩
abbrev cX8_longer : ByteArray := prog_20_method_92_code
def yX8_longer : MethodName := ⟨RX8, "longer", "([I)[I"⟩
abbrev cX8_doNext : ByteArray := prog_20_method_132_code
def yX8_doNext : MethodName := ⟨RX8, "doNext", "()V"⟩
abbrev cX8_evaluate : ByteArray := prog_20_method_101_code
def yX8_evaluate : MethodName := ⟨RX8, "evaluate", "(I)V"⟩
abbrev cX8_push : ByteArray := prog_20_method_96_code
def yX8_push : MethodName := ⟨RX8, "push", "(I)V"⟩
abbrev cX8_wordOf : ByteArray := prog_20_method_100_code
def yX8_wordOf : MethodName := ⟨RX8, "wordOf", "(I)I"⟩
abbrev cX8_address : ByteArray := prog_20_method_103_code
def yX8_address : MethodName := ⟨RX8, "address", "(I)V"⟩
abbrev cX8_turnTodo : ByteArray := prog_20_method_102_code
def yX8_turnTodo : MethodName := ⟨RX8, "turnTodo", "(I)V"⟩
abbrev cX8_bin : ByteArray := prog_20_method_104_code
def yX8_bin : MethodName := ⟨RX8, "bin", "(I)V"⟩
abbrev cX8_pop : ByteArray := prog_20_method_97_code
def yX8_pop : MethodName := ⟨RX8, "pop", "()I"⟩
abbrev cX8_read : ByteArray := prog_20_method_98_code
def yX8_read : MethodName := ⟨RX8, "read", "(J)I"⟩
abbrev cX8_rel : ByteArray := prog_20_method_105_code
def yX8_rel : MethodName := ⟨RX8, "rel", "(II)V"⟩
abbrev cX8_call : ByteArray := prog_20_method_108_code
def yX8_call : MethodName := ⟨RX8, "call", "(II)V"⟩
abbrev cX8_libraryCall : ByteArray := prog_20_method_122_code
def yX8_libraryCall : MethodName := ⟨RX8, "libraryCall", "(III)V"⟩
abbrev cX8_arg : ByteArray := prog_20_method_109_code
def yX8_arg : MethodName := ⟨RX8, "arg", "(II)I"⟩
abbrev cX8_decimal : ByteArray := prog_20_method_111_code
def yX8_decimal : MethodName := ⟨RX8, "decimal", "(II)V"⟩
abbrev cX8_outByte : ByteArray := prog_20_method_110_code
def yX8_outByte : MethodName := ⟨RX8, "outByte", "(I)V"⟩
abbrev cX8_writeString : ByteArray := prog_20_method_117_code
def yX8_writeString : MethodName := ⟨RX8, "writeString", "(I)V"⟩
abbrev cX8_nextByte : ByteArray := prog_20_method_112_code
def yX8_nextByte : MethodName := ⟨RX8, "nextByte", "()I"⟩
abbrev cX8_getVector : ByteArray := prog_20_method_118_code
def yX8_getVector : MethodName := ⟨RX8, "getVector", "(I)I"⟩
abbrev cX8_layVector : ByteArray := prog_20_method_119_code
def yX8_layVector : MethodName := ⟨RX8, "layVector", "(IJJI)I"⟩
abbrev cX8_freeVector : ByteArray := prog_20_method_120_code
def yX8_freeVector : MethodName := ⟨RX8, "freeVector", "(I)V"⟩
abbrev cX8_readNumber : ByteArray := prog_20_method_114_code
def yX8_readNumber : MethodName := ⟨RX8, "readNumber", "()I"⟩
abbrev cX8_peek : ByteArray := prog_20_method_113_code
def yX8_peek : MethodName := ⟨RX8, "peek", "()I"⟩
abbrev cX8_toVector : ByteArray := prog_20_method_121_code
def yX8_toVector : MethodName := ⟨RX8, "toVector", "(III)V"⟩
abbrev cX8_perform : ByteArray := prog_20_method_123_code
def yX8_perform : MethodName := ⟨RX8, "perform", "(I)V"⟩
abbrev cX8_assign : ByteArray := prog_20_method_124_code
def yX8_assign : MethodName := ⟨RX8, "assign", "(II)V"⟩
abbrev cX8_stores : ByteArray := prog_20_method_125_code
def yX8_stores : MethodName := ⟨RX8, "stores", "(I)V"⟩
abbrev cX8_write : ByteArray := prog_20_method_99_code
def yX8_write : MethodName := ⟨RX8, "write", "(JI)V"⟩
abbrev cX8_loop : ByteArray := prog_20_method_126_code
def yX8_loop : MethodName := ⟨RX8, "loop", "(II)V"⟩
abbrev cX8_isStep : ByteArray := prog_20_method_127_code
def yX8_isStep : MethodName := ⟨RX8, "isStep", "(III)Z"⟩
abbrev cX8_asked : ByteArray := prog_20_method_128_code
def yX8_asked : MethodName := ⟨RX8, "asked", "(I)V"⟩
abbrev cX8_section : ByteArray := prog_20_method_129_code
def yX8_section : MethodName := ⟨RX8, "section", "(II)V"⟩
abbrev cX8_returns : ByteArray := prog_20_method_133_code
def yX8_returns : MethodName := ⟨RX8, "returns", "(II)V"⟩
abbrev cX8_variables : ByteArray := prog_20_method_130_code
def yX8_variables : MethodName := ⟨RX8, "variables", "(I)V"⟩
abbrev cX8_choose : ByteArray := prog_20_method_131_code
def yX8_choose : MethodName := ⟨RX8, "choose", "(I)V"⟩
abbrev cX8_value : ByteArray := prog_20_method_141_code
def yX8_value : MethodName := ⟨RX8, "value", "()I"⟩
abbrev cX8_out : ByteArray := prog_20_method_142_code
def yX8_out : MethodName := ⟨RX8, "out", "(I)I"⟩
abbrev cX8_outAt : ByteArray := prog_20_method_143_code
def yX8_outAt : MethodName := ⟨RX8, "outAt", "(II)I"⟩
abbrev cX8_word : ByteArray := prog_20_method_144_code
def yX8_word : MethodName := ⟨RX8, "word", "(I)I"⟩
abbrev cX8_fuel : ByteArray := prog_20_method_145_code
def yX8_fuel : MethodName := ⟨RX8, "fuel", "()I"⟩
theorem q282 : (Jvm.Cond.initialized "WordTongueModel") ∈ lw_all := lw_g (lw_at lw_m1 28 rfl) rfl
theorem q698 : (Jvm.Cond.selects "WordTongueModel" ({ cls := "java/lang/Object", name := "hashCode", desc := "()I" } : Jvm.MethodName) ({ cls := "java/lang/Object", name := "hashCode", desc := "()I" } : Jvm.MethodName)) ∈ lw_all := lw_g (lw_at lw_m2 204 rfl) rfl
theorem q843 : (Jvm.Cond.selects "WordTongueModel" ({ cls := "java/lang/Object", name := "getClass", desc := "()Ljava/lang/Class;" } : Jvm.MethodName) ({ cls := "java/lang/Object", name := "getClass", desc := "()Ljava/lang/Class;" } : Jvm.MethodName)) ∈ lw_all := lw_g (lw_at lw_m3 109 rfl) rfl
theorem q1129 : (Jvm.Cond.selects "WordTongueModel" ({ cls := "java/lang/Object", name := "equals", desc := "(Ljava/lang/Object;)Z" } : Jvm.MethodName) ({ cls := "java/lang/Object", name := "equals", desc := "(Ljava/lang/Object;)Z" } : Jvm.MethodName)) ∈ lw_all := lw_g (lw_at lw_m4 155 rfl) rfl
theorem q3307 : (Jvm.Cond.instantiable "WordTongueModel" (119 : Nat)) ∈ lw_all := lw_g (lw_at lw_m13 173 rfl) rfl
theorem q3309 : (Jvm.Cond.instanceMethod ({ cls := "WordTongueModel", name := "<init>", desc := "()V" } : Jvm.MethodName)) ∈ lw_all := lw_g (lw_at lw_m13 175 rfl) rfl
theorem q3310 : (Jvm.Cond.code ({ cls := "WordTongueModel", name := "<init>", desc := "()V" } : Jvm.MethodName) prog_20_method_1_code (1 : Nat) (Option.none : Option Jvm.ClassFile.FieldType)) ∈ lw_all := lw_g (lw_at lw_m13 176 rfl) rfl
theorem q3311 : (Jvm.Cond.methodLink "WordTongueModel" (1 : Nat) ({ cls := "java/lang/Object", name := "<init>", desc := "()V" } : Jvm.MethodName)) ∈ lw_all := lw_g (lw_at lw_m13 177 rfl) rfl
theorem q3312 : (Jvm.Cond.constant "WordTongueModel" (218 : Nat) (60000 : Int32)) ∈ lw_all := lw_g (lw_at lw_m13 178 rfl) rfl
theorem q3313 : (Jvm.Cond.constant "WordTongueModel" (279 : Nat) (620000 : Int32)) ∈ lw_all := lw_g (lw_at lw_m13 179 rfl) rfl
theorem q3314 : (Jvm.Cond.constant "WordTongueModel" (292 : Nat) (300000 : Int32)) ∈ lw_all := lw_g (lw_at lw_m13 180 rfl) rfl
theorem q3315 : (Jvm.Cond.constant "WordTongueModel" (311 : Nat) (65536 : Int32)) ∈ lw_all := lw_g (lw_at lw_m13 181 rfl) rfl
theorem q3316 : (Jvm.Cond.fieldLink "WordTongueModel" (7 : Nat) "WordTongueModel" "thrownCode" "I") ∈ lw_all := lw_g (lw_at lw_m13 182 rfl) rfl
theorem q3317 : (Jvm.Cond.fieldLink "WordTongueModel" (13 : Nat) "WordTongueModel" "tape" "[B") ∈ lw_all := lw_g (lw_at lw_m13 183 rfl) rfl
theorem q3318 : (Jvm.Cond.fieldLink "WordTongueModel" (17 : Nat) "WordTongueModel" "tapeLen" "I") ∈ lw_all := lw_g (lw_at lw_m13 184 rfl) rfl
theorem q3319 : (Jvm.Cond.fieldLink "WordTongueModel" (20 : Nat) "WordTongueModel" "src" "[B") ∈ lw_all := lw_g (lw_at lw_m13 185 rfl) rfl
theorem q3320 : (Jvm.Cond.fieldLink "WordTongueModel" (23 : Nat) "WordTongueModel" "srcLen" "I") ∈ lw_all := lw_g (lw_at lw_m13 186 rfl) rfl
theorem q3321 : (Jvm.Cond.fieldLink "WordTongueModel" (26 : Nat) "WordTongueModel" "names" "I") ∈ lw_all := lw_g (lw_at lw_m13 187 rfl) rfl
theorem q3322 : (Jvm.Cond.fieldLink "WordTongueModel" (29 : Nat) "WordTongueModel" "nameAt" "[I") ∈ lw_all := lw_g (lw_at lw_m13 188 rfl) rfl
theorem q3323 : (Jvm.Cond.fieldLink "WordTongueModel" (33 : Nat) "WordTongueModel" "nameLen" "[I") ∈ lw_all := lw_g (lw_at lw_m13 189 rfl) rfl
theorem q3324 : (Jvm.Cond.fieldLink "WordTongueModel" (36 : Nat) "WordTongueModel" "tokens" "I") ∈ lw_all := lw_g (lw_at lw_m13 190 rfl) rfl
theorem q3325 : (Jvm.Cond.fieldLink "WordTongueModel" (39 : Nat) "WordTongueModel" "tKind" "[I") ∈ lw_all := lw_g (lw_at lw_m13 191 rfl) rfl
theorem q3326 : (Jvm.Cond.fieldLink "WordTongueModel" (42 : Nat) "WordTongueModel" "tAt" "[I") ∈ lw_all := lw_g (lw_at lw_m13 192 rfl) rfl
theorem q3327 : (Jvm.Cond.fieldLink "WordTongueModel" (45 : Nat) "WordTongueModel" "tValue" "[I") ∈ lw_all := lw_g (lw_at lw_m13 193 rfl) rfl
theorem q3328 : (Jvm.Cond.fieldLink "WordTongueModel" (48 : Nat) "WordTongueModel" "faultOf" "I") ∈ lw_all := lw_g (lw_at lw_m13 194 rfl) rfl
theorem q3329 : (Jvm.Cond.fieldLink "WordTongueModel" (51 : Nat) "WordTongueModel" "faultAt" "I") ∈ lw_all := lw_g (lw_at lw_m13 195 rfl) rfl
theorem q3330 : (Jvm.Cond.fieldLink "WordTongueModel" (54 : Nat) "WordTongueModel" "strs" "[B") ∈ lw_all := lw_g (lw_at lw_m13 196 rfl) rfl
theorem q3331 : (Jvm.Cond.fieldLink "WordTongueModel" (57 : Nat) "WordTongueModel" "strsLen" "I") ∈ lw_all := lw_g (lw_at lw_m13 197 rfl) rfl
theorem q3332 : (Jvm.Cond.fieldLink "WordTongueModel" (60 : Nat) "WordTongueModel" "strAt" "[I") ∈ lw_all := lw_g (lw_at lw_m13 198 rfl) rfl
theorem q3333 : (Jvm.Cond.fieldLink "WordTongueModel" (63 : Nat) "WordTongueModel" "strLen" "[I") ∈ lw_all := lw_g (lw_at lw_m13 199 rfl) rfl
theorem q3334 : (Jvm.Cond.fieldLink "WordTongueModel" (66 : Nat) "WordTongueModel" "strCount" "I") ∈ lw_all := lw_g (lw_at lw_m13 200 rfl) rfl
theorem q3335 : (Jvm.Cond.fieldLink "WordTongueModel" (69 : Nat) "WordTongueModel" "line" "I") ∈ lw_all := lw_g (lw_at lw_m13 201 rfl) rfl
theorem q3336 : (Jvm.Cond.fieldLink "WordTongueModel" (72 : Nat) "WordTongueModel" "lastLine" "I") ∈ lw_all := lw_g (lw_at lw_m13 202 rfl) rfl
theorem q3337 : (Jvm.Cond.fieldLink "WordTongueModel" (75 : Nat) "WordTongueModel" "cValue" "I") ∈ lw_all := lw_g (lw_at lw_m13 203 rfl) rfl
theorem q3338 : (Jvm.Cond.fieldLink "WordTongueModel" (78 : Nat) "WordTongueModel" "number" "I") ∈ lw_all := lw_g (lw_at lw_m13 204 rfl) rfl
theorem q3339 : (Jvm.Cond.fieldLink "WordTongueModel" (81 : Nat) "WordTongueModel" "signLen" "I") ∈ lw_all := lw_g (lw_at lw_m13 205 rfl) rfl
theorem q3340 : (Jvm.Cond.fieldLink "WordTongueModel" (84 : Nat) "WordTongueModel" "nodes" "I") ∈ lw_all := lw_g (lw_at lw_m13 206 rfl) rfl
theorem q3341 : (Jvm.Cond.fieldLink "WordTongueModel" (87 : Nat) "WordTongueModel" "nKind" "[B") ∈ lw_all := lw_g (lw_at lw_m13 207 rfl) rfl
theorem q3342 : (Jvm.Cond.fieldLink "WordTongueModel" (90 : Nat) "WordTongueModel" "nTok" "[I") ∈ lw_all := lw_g (lw_at lw_m13 208 rfl) rfl
theorem q3343 : (Jvm.Cond.fieldLink "WordTongueModel" (93 : Nat) "WordTongueModel" "nChild" "[I") ∈ lw_all := lw_g (lw_at lw_m13 209 rfl) rfl
theorem q3344 : (Jvm.Cond.fieldLink "WordTongueModel" (96 : Nat) "WordTongueModel" "nNext" "[I") ∈ lw_all := lw_g (lw_at lw_m13 210 rfl) rfl
theorem q3345 : (Jvm.Cond.fieldLink "WordTongueModel" (99 : Nat) "WordTongueModel" "nA" "[I") ∈ lw_all := lw_g (lw_at lw_m13 211 rfl) rfl
theorem q3346 : (Jvm.Cond.fieldLink "WordTongueModel" (102 : Nat) "WordTongueModel" "nB" "[I") ∈ lw_all := lw_g (lw_at lw_m13 212 rfl) rfl
theorem q3347 : (Jvm.Cond.fieldLink "WordTongueModel" (105 : Nat) "WordTongueModel" "nC" "[I") ∈ lw_all := lw_g (lw_at lw_m13 213 rfl) rfl
theorem q3348 : (Jvm.Cond.fieldLink "WordTongueModel" (108 : Nat) "WordTongueModel" "nPair" "[I") ∈ lw_all := lw_g (lw_at lw_m13 214 rfl) rfl
theorem q3349 : (Jvm.Cond.fieldLink "WordTongueModel" (111 : Nat) "WordTongueModel" "nRel" "[I") ∈ lw_all := lw_g (lw_at lw_m13 215 rfl) rfl
theorem q3350 : (Jvm.Cond.fieldLink "WordTongueModel" (114 : Nat) "WordTongueModel" "nFirst" "[I") ∈ lw_all := lw_g (lw_at lw_m13 216 rfl) rfl
theorem q3351 : (Jvm.Cond.fieldLink "WordTongueModel" (117 : Nat) "WordTongueModel" "nParen" "[Z") ∈ lw_all := lw_g (lw_at lw_m13 217 rfl) rfl
theorem q3352 : (Jvm.Cond.fieldLink "WordTongueModel" (121 : Nat) "WordTongueModel" "out" "[I") ∈ lw_all := lw_g (lw_at lw_m13 218 rfl) rfl
theorem q3353 : (Jvm.Cond.fieldLink "WordTongueModel" (124 : Nat) "WordTongueModel" "outs" "I") ∈ lw_all := lw_g (lw_at lw_m13 219 rfl) rfl
theorem q3354 : (Jvm.Cond.fieldLink "WordTongueModel" (127 : Nat) "WordTongueModel" "goals" "I") ∈ lw_all := lw_g (lw_at lw_m13 220 rfl) rfl
theorem q3355 : (Jvm.Cond.fieldLink "WordTongueModel" (130 : Nat) "WordTongueModel" "gKind" "[I") ∈ lw_all := lw_g (lw_at lw_m13 221 rfl) rfl
theorem q3356 : (Jvm.Cond.fieldLink "WordTongueModel" (133 : Nat) "WordTongueModel" "gX" "[I") ∈ lw_all := lw_g (lw_at lw_m13 222 rfl) rfl
theorem q3357 : (Jvm.Cond.fieldLink "WordTongueModel" (136 : Nat) "WordTongueModel" "gY" "[I") ∈ lw_all := lw_g (lw_at lw_m13 223 rfl) rfl
theorem q3358 : (Jvm.Cond.fieldLink "WordTongueModel" (139 : Nat) "WordTongueModel" "gZ" "[I") ∈ lw_all := lw_g (lw_at lw_m13 224 rfl) rfl
theorem q3359 : (Jvm.Cond.fieldLink "WordTongueModel" (142 : Nat) "WordTongueModel" "at" "I") ∈ lw_all := lw_g (lw_at lw_m13 225 rfl) rfl
theorem q3360 : (Jvm.Cond.fieldLink "WordTongueModel" (145 : Nat) "WordTongueModel" "depth" "I") ∈ lw_all := lw_g (lw_at lw_m13 226 rfl) rfl
theorem q3361 : (Jvm.Cond.fieldLink "WordTongueModel" (148 : Nat) "WordTongueModel" "sections" "I") ∈ lw_all := lw_g (lw_at lw_m13 227 rfl) rfl
theorem q3362 : (Jvm.Cond.fieldLink "WordTongueModel" (151 : Nat) "WordTongueModel" "secTag" "[I") ∈ lw_all := lw_g (lw_at lw_m13 228 rfl) rfl
theorem q3363 : (Jvm.Cond.fieldLink "WordTongueModel" (154 : Nat) "WordTongueModel" "secDepth" "[I") ∈ lw_all := lw_g (lw_at lw_m13 229 rfl) rfl
theorem q3364 : (Jvm.Cond.fieldLink "WordTongueModel" (157 : Nat) "WordTongueModel" "lexEnd" "I") ∈ lw_all := lw_g (lw_at lw_m13 230 rfl) rfl
theorem q3365 : (Jvm.Cond.fieldLink "WordTongueModel" (160 : Nat) "WordTongueModel" "entries" "I") ∈ lw_all := lw_g (lw_at lw_m13 231 rfl) rfl
theorem q3366 : (Jvm.Cond.fieldLink "WordTongueModel" (163 : Nat) "WordTongueModel" "eName" "[I") ∈ lw_all := lw_g (lw_at lw_m13 232 rfl) rfl
theorem q3367 : (Jvm.Cond.fieldLink "WordTongueModel" (166 : Nat) "WordTongueModel" "eKind" "[I") ∈ lw_all := lw_g (lw_at lw_m13 233 rfl) rfl
theorem q3368 : (Jvm.Cond.fieldLink "WordTongueModel" (169 : Nat) "WordTongueModel" "eValue" "[I") ∈ lw_all := lw_g (lw_at lw_m13 234 rfl) rfl
theorem q3369 : (Jvm.Cond.fieldLink "WordTongueModel" (172 : Nat) "WordTongueModel" "eState" "[I") ∈ lw_all := lw_g (lw_at lw_m13 235 rfl) rfl
theorem q3370 : (Jvm.Cond.fieldLink "WordTongueModel" (175 : Nat) "WordTongueModel" "eOther" "[I") ∈ lw_all := lw_g (lw_at lw_m13 236 rfl) rfl
theorem q3371 : (Jvm.Cond.fieldLink "WordTongueModel" (178 : Nat) "WordTongueModel" "blockBase" "I") ∈ lw_all := lw_g (lw_at lw_m13 237 rfl) rfl
theorem q3372 : (Jvm.Cond.fieldLink "WordTongueModel" (181 : Nat) "WordTongueModel" "libName" "[I") ∈ lw_all := lw_g (lw_at lw_m13 238 rfl) rfl
theorem q3373 : (Jvm.Cond.fieldLink "WordTongueModel" (184 : Nat) "WordTongueModel" "eTok" "[I") ∈ lw_all := lw_g (lw_at lw_m13 239 rfl) rfl
theorem q3374 : (Jvm.Cond.fieldLink "WordTongueModel" (187 : Nat) "WordTongueModel" "kGood" "Z") ∈ lw_all := lw_g (lw_at lw_m14 0 rfl) rfl
theorem q3375 : (Jvm.Cond.fieldLink "WordTongueModel" (191 : Nat) "WordTongueModel" "kValue" "I") ∈ lw_all := lw_g (lw_at lw_m14 1 rfl) rfl
theorem q3376 : (Jvm.Cond.fieldLink "WordTongueModel" (194 : Nat) "WordTongueModel" "walk" "[I") ∈ lw_all := lw_g (lw_at lw_m14 2 rfl) rfl
theorem q3377 : (Jvm.Cond.fieldLink "WordTongueModel" (197 : Nat) "WordTongueModel" "step" "[I") ∈ lw_all := lw_g (lw_at lw_m14 3 rfl) rfl
theorem q3378 : (Jvm.Cond.fieldLink "WordTongueModel" (200 : Nat) "WordTongueModel" "kWork" "[I") ∈ lw_all := lw_g (lw_at lw_m14 4 rfl) rfl
theorem q3379 : (Jvm.Cond.fieldLink "WordTongueModel" (203 : Nat) "WordTongueModel" "tasks" "I") ∈ lw_all := lw_g (lw_at lw_m14 5 rfl) rfl
theorem q3380 : (Jvm.Cond.fieldLink "WordTongueModel" (206 : Nat) "WordTongueModel" "cTask" "[I") ∈ lw_all := lw_g (lw_at lw_m14 6 rfl) rfl
theorem q3381 : (Jvm.Cond.fieldLink "WordTongueModel" (209 : Nat) "WordTongueModel" "cNode" "[I") ∈ lw_all := lw_g (lw_at lw_m14 7 rfl) rfl
theorem q3382 : (Jvm.Cond.fieldLink "WordTongueModel" (212 : Nat) "WordTongueModel" "cAux" "[I") ∈ lw_all := lw_g (lw_at lw_m14 8 rfl) rfl
theorem q3383 : (Jvm.Cond.fieldLink "WordTongueModel" (215 : Nat) "WordTongueModel" "saved" "I") ∈ lw_all := lw_g (lw_at lw_m14 9 rfl) rfl
theorem q3384 : (Jvm.Cond.fieldLink "WordTongueModel" (219 : Nat) "WordTongueModel" "save" "[I") ∈ lw_all := lw_g (lw_at lw_m14 10 rfl) rfl
theorem q3385 : (Jvm.Cond.fieldLink "WordTongueModel" (222 : Nat) "WordTongueModel" "routines" "I") ∈ lw_all := lw_g (lw_at lw_m14 11 rfl) rfl
theorem q3386 : (Jvm.Cond.fieldLink "WordTongueModel" (225 : Nat) "WordTongueModel" "rMax" "[I") ∈ lw_all := lw_g (lw_at lw_m14 12 rfl) rfl
theorem q3387 : (Jvm.Cond.fieldLink "WordTongueModel" (228 : Nat) "WordTongueModel" "rParams" "[I") ∈ lw_all := lw_g (lw_at lw_m14 13 rfl) rfl
theorem q3388 : (Jvm.Cond.fieldLink "WordTongueModel" (231 : Nat) "WordTongueModel" "rBody" "[I") ∈ lw_all := lw_g (lw_at lw_m14 14 rfl) rfl
theorem q3389 : (Jvm.Cond.fieldLink "WordTongueModel" (234 : Nat) "WordTongueModel" "routine" "I") ∈ lw_all := lw_g (lw_at lw_m14 15 rfl) rfl
theorem q3390 : (Jvm.Cond.fieldLink "WordTongueModel" (237 : Nat) "WordTongueModel" "inUse" "I") ∈ lw_all := lw_g (lw_at lw_m14 16 rfl) rfl
theorem q3391 : (Jvm.Cond.fieldLink "WordTongueModel" (240 : Nat) "WordTongueModel" "mostUse" "I") ∈ lw_all := lw_g (lw_at lw_m14 17 rfl) rfl
theorem q3392 : (Jvm.Cond.fieldLink "WordTongueModel" (243 : Nat) "WordTongueModel" "gives" "Z") ∈ lw_all := lw_g (lw_at lw_m14 18 rfl) rfl
theorem q3393 : (Jvm.Cond.fieldLink "WordTongueModel" (246 : Nat) "WordTongueModel" "valof" "I") ∈ lw_all := lw_g (lw_at lw_m14 19 rfl) rfl
theorem q3394 : (Jvm.Cond.fieldLink "WordTongueModel" (249 : Nat) "WordTongueModel" "valofs" "I") ∈ lw_all := lw_g (lw_at lw_m14 20 rfl) rfl
theorem q3395 : (Jvm.Cond.fieldLink "WordTongueModel" (252 : Nat) "WordTongueModel" "loops" "I") ∈ lw_all := lw_g (lw_at lw_m14 21 rfl) rfl
theorem q3396 : (Jvm.Cond.fieldLink "WordTongueModel" (255 : Nat) "WordTongueModel" "switches" "I") ∈ lw_all := lw_g (lw_at lw_m14 22 rfl) rfl
theorem q3397 : (Jvm.Cond.fieldLink "WordTongueModel" (258 : Nat) "WordTongueModel" "words" "I") ∈ lw_all := lw_g (lw_at lw_m14 23 rfl) rfl
theorem q3398 : (Jvm.Cond.fieldLink "WordTongueModel" (261 : Nat) "WordTongueModel" "start" "I") ∈ lw_all := lw_g (lw_at lw_m14 24 rfl) rfl
theorem q3399 : (Jvm.Cond.fieldLink "WordTongueModel" (264 : Nat) "WordTongueModel" "startName" "I") ∈ lw_all := lw_g (lw_at lw_m14 25 rfl) rfl
theorem q3400 : (Jvm.Cond.fieldLink "WordTongueModel" (267 : Nat) "WordTongueModel" "inits" "I") ∈ lw_all := lw_g (lw_at lw_m14 26 rfl) rfl
theorem q3401 : (Jvm.Cond.fieldLink "WordTongueModel" (270 : Nat) "WordTongueModel" "initAt" "[I") ∈ lw_all := lw_g (lw_at lw_m14 27 rfl) rfl
theorem q3402 : (Jvm.Cond.fieldLink "WordTongueModel" (273 : Nat) "WordTongueModel" "initValue" "[I") ∈ lw_all := lw_g (lw_at lw_m14 28 rfl) rfl
theorem q3403 : (Jvm.Cond.fieldLink "WordTongueModel" (276 : Nat) "WordTongueModel" "todo" "I") ∈ lw_all := lw_g (lw_at lw_m14 29 rfl) rfl
theorem q3404 : (Jvm.Cond.fieldLink "WordTongueModel" (280 : Nat) "WordTongueModel" "xTask" "[I") ∈ lw_all := lw_g (lw_at lw_m14 30 rfl) rfl
theorem q3405 : (Jvm.Cond.fieldLink "WordTongueModel" (283 : Nat) "WordTongueModel" "xNode" "[I") ∈ lw_all := lw_g (lw_at lw_m14 31 rfl) rfl
theorem q3406 : (Jvm.Cond.fieldLink "WordTongueModel" (286 : Nat) "WordTongueModel" "xAux" "[I") ∈ lw_all := lw_g (lw_at lw_m14 32 rfl) rfl
theorem q3407 : (Jvm.Cond.fieldLink "WordTongueModel" (289 : Nat) "WordTongueModel" "vals" "I") ∈ lw_all := lw_g (lw_at lw_m14 33 rfl) rfl
theorem q3408 : (Jvm.Cond.fieldLink "WordTongueModel" (293 : Nat) "WordTongueModel" "val" "[I") ∈ lw_all := lw_g (lw_at lw_m14 34 rfl) rfl
theorem q3409 : (Jvm.Cond.fieldLink "WordTongueModel" (296 : Nat) "WordTongueModel" "backB" "[I") ∈ lw_all := lw_g (lw_at lw_m14 35 rfl) rfl
theorem q3410 : (Jvm.Cond.fieldLink "WordTongueModel" (299 : Nat) "WordTongueModel" "backR" "[I") ∈ lw_all := lw_g (lw_at lw_m14 36 rfl) rfl
theorem q3411 : (Jvm.Cond.fieldLink "WordTongueModel" (302 : Nat) "WordTongueModel" "under" "I") ∈ lw_all := lw_g (lw_at lw_m14 37 rfl) rfl
theorem q3412 : (Jvm.Cond.fieldLink "WordTongueModel" (305 : Nat) "WordTongueModel" "base" "I") ∈ lw_all := lw_g (lw_at lw_m14 38 rfl) rfl
theorem q3413 : (Jvm.Cond.fieldLink "WordTongueModel" (308 : Nat) "WordTongueModel" "running" "I") ∈ lw_all := lw_g (lw_at lw_m14 39 rfl) rfl
theorem q3414 : (Jvm.Cond.fieldLink "WordTongueModel" (312 : Nat) "WordTongueModel" "store" "[I") ∈ lw_all := lw_g (lw_at lw_m14 40 rfl) rfl
theorem q3415 : (Jvm.Cond.fieldLink "WordTongueModel" (315 : Nat) "WordTongueModel" "size" "I") ∈ lw_all := lw_g (lw_at lw_m14 41 rfl) rfl
theorem q3416 : (Jvm.Cond.fieldLink "WordTongueModel" (318 : Nat) "WordTongueModel" "wanted" "I") ∈ lw_all := lw_g (lw_at lw_m14 42 rfl) rfl
theorem q3417 : (Jvm.Cond.fieldLink "WordTongueModel" (321 : Nat) "WordTongueModel" "fuelLeft" "I") ∈ lw_all := lw_g (lw_at lw_m14 43 rfl) rfl
theorem q3418 : (Jvm.Cond.fieldLink "WordTongueModel" (324 : Nat) "WordTongueModel" "ended" "Z") ∈ lw_all := lw_g (lw_at lw_m14 44 rfl) rfl
theorem q3419 : (Jvm.Cond.fieldLink "WordTongueModel" (327 : Nat) "WordTongueModel" "answer" "I") ∈ lw_all := lw_g (lw_at lw_m14 45 rfl) rfl
theorem q3420 : (Jvm.Cond.fieldLink "WordTongueModel" (330 : Nat) "WordTongueModel" "result" "I") ∈ lw_all := lw_g (lw_at lw_m14 46 rfl) rfl
theorem q3421 : (Jvm.Cond.fieldLink "WordTongueModel" (333 : Nat) "WordTongueModel" "compiled" "Z") ∈ lw_all := lw_g (lw_at lw_m14 47 rfl) rfl
theorem q3422 : (Jvm.Cond.fieldLink "WordTongueModel" (336 : Nat) "WordTongueModel" "gots" "I") ∈ lw_all := lw_g (lw_at lw_m14 48 rfl) rfl
theorem q3423 : (Jvm.Cond.fieldLink "WordTongueModel" (339 : Nat) "WordTongueModel" "gotAt" "[I") ∈ lw_all := lw_g (lw_at lw_m14 49 rfl) rfl
theorem q3424 : (Jvm.Cond.fieldLink "WordTongueModel" (342 : Nat) "WordTongueModel" "gotLen" "[I") ∈ lw_all := lw_g (lw_at lw_m14 50 rfl) rfl
theorem q3425 : (Jvm.Cond.fieldLink "WordTongueModel" (345 : Nat) "WordTongueModel" "input" "[B") ∈ lw_all := lw_g (lw_at lw_m14 51 rfl) rfl
theorem q3426 : (Jvm.Cond.fieldLink "WordTongueModel" (348 : Nat) "WordTongueModel" "runEnd" "[I") ∈ lw_all := lw_g (lw_at lw_m14 52 rfl) rfl
theorem q3427 : (Jvm.Cond.fieldLink "WordTongueModel" (351 : Nat) "WordTongueModel" "digitsFrom" "[I") ∈ lw_all := lw_g (lw_at lw_m14 53 rfl) rfl
theorem q3428 : (Jvm.Cond.fieldLink "WordTongueModel" (354 : Nat) "WordTongueModel" "inLen" "[I") ∈ lw_all := lw_g (lw_at lw_m14 54 rfl) rfl
theorem q3429 : (Jvm.Cond.fieldLink "WordTongueModel" (357 : Nat) "WordTongueModel" "inAt" "[I") ∈ lw_all := lw_g (lw_at lw_m14 55 rfl) rfl
theorem q3430 : (Jvm.Cond.fieldLink "WordTongueModel" (360 : Nat) "WordTongueModel" "inNow" "I") ∈ lw_all := lw_g (lw_at lw_m14 56 rfl) rfl
theorem q3431 : (Jvm.Cond.fieldLink "WordTongueModel" (363 : Nat) "WordTongueModel" "output" "[B") ∈ lw_all := lw_g (lw_at lw_m14 57 rfl) rfl
theorem q3432 : (Jvm.Cond.fieldLink "WordTongueModel" (366 : Nat) "WordTongueModel" "outLen" "[I") ∈ lw_all := lw_g (lw_at lw_m14 58 rfl) rfl
theorem q3433 : (Jvm.Cond.fieldLink "WordTongueModel" (369 : Nat) "WordTongueModel" "outNow" "I") ∈ lw_all := lw_g (lw_at lw_m14 59 rfl) rfl
theorem q3434 : (Jvm.Cond.fieldLink "WordTongueModel" (372 : Nat) "WordTongueModel" "figures" "[B") ∈ lw_all := lw_g (lw_at lw_m14 60 rfl) rfl
theorem q3435 : (Jvm.Cond.lays "WordTongueModel" "WordTongueModel" "thrownCode" "I") ∈ lw_all := lw_g (lw_at lw_m14 61 rfl) rfl
theorem q3436 : (Jvm.Cond.soleField "WordTongueModel" "thrownCode") ∈ lw_all := lw_g (lw_at lw_m14 62 rfl) rfl
theorem q3437 : (Jvm.Cond.laysFinal "WordTongueModel" "WordTongueModel" "tape" "[B") ∈ lw_all := lw_g (lw_at lw_m14 63 rfl) rfl
theorem q3438 : (Jvm.Cond.soleField "WordTongueModel" "tape") ∈ lw_all := lw_g (lw_at lw_m14 64 rfl) rfl
theorem q3439 : (Jvm.Cond.lays "WordTongueModel" "WordTongueModel" "tapeLen" "I") ∈ lw_all := lw_g (lw_at lw_m14 65 rfl) rfl
theorem q3440 : (Jvm.Cond.soleField "WordTongueModel" "tapeLen") ∈ lw_all := lw_g (lw_at lw_m14 66 rfl) rfl
theorem q3441 : (Jvm.Cond.laysFinal "WordTongueModel" "WordTongueModel" "src" "[B") ∈ lw_all := lw_g (lw_at lw_m14 67 rfl) rfl
theorem q3442 : (Jvm.Cond.soleField "WordTongueModel" "src") ∈ lw_all := lw_g (lw_at lw_m14 68 rfl) rfl
theorem q3443 : (Jvm.Cond.lays "WordTongueModel" "WordTongueModel" "srcLen" "I") ∈ lw_all := lw_g (lw_at lw_m14 69 rfl) rfl
theorem q3444 : (Jvm.Cond.soleField "WordTongueModel" "srcLen") ∈ lw_all := lw_g (lw_at lw_m14 70 rfl) rfl
theorem q3445 : (Jvm.Cond.lays "WordTongueModel" "WordTongueModel" "names" "I") ∈ lw_all := lw_g (lw_at lw_m14 71 rfl) rfl
theorem q3446 : (Jvm.Cond.soleField "WordTongueModel" "names") ∈ lw_all := lw_g (lw_at lw_m14 72 rfl) rfl
theorem q3447 : (Jvm.Cond.laysFinal "WordTongueModel" "WordTongueModel" "nameAt" "[I") ∈ lw_all := lw_g (lw_at lw_m14 73 rfl) rfl
theorem q3448 : (Jvm.Cond.soleField "WordTongueModel" "nameAt") ∈ lw_all := lw_g (lw_at lw_m14 74 rfl) rfl
theorem q3449 : (Jvm.Cond.laysFinal "WordTongueModel" "WordTongueModel" "nameLen" "[I") ∈ lw_all := lw_g (lw_at lw_m14 75 rfl) rfl
theorem q3450 : (Jvm.Cond.soleField "WordTongueModel" "nameLen") ∈ lw_all := lw_g (lw_at lw_m14 76 rfl) rfl
theorem q3451 : (Jvm.Cond.lays "WordTongueModel" "WordTongueModel" "tokens" "I") ∈ lw_all := lw_g (lw_at lw_m14 77 rfl) rfl
theorem q3452 : (Jvm.Cond.soleField "WordTongueModel" "tokens") ∈ lw_all := lw_g (lw_at lw_m14 78 rfl) rfl
theorem q3453 : (Jvm.Cond.laysFinal "WordTongueModel" "WordTongueModel" "tKind" "[I") ∈ lw_all := lw_g (lw_at lw_m14 79 rfl) rfl
theorem q3454 : (Jvm.Cond.soleField "WordTongueModel" "tKind") ∈ lw_all := lw_g (lw_at lw_m14 80 rfl) rfl
theorem q3455 : (Jvm.Cond.laysFinal "WordTongueModel" "WordTongueModel" "tAt" "[I") ∈ lw_all := lw_g (lw_at lw_m14 81 rfl) rfl
theorem q3456 : (Jvm.Cond.soleField "WordTongueModel" "tAt") ∈ lw_all := lw_g (lw_at lw_m14 82 rfl) rfl
theorem q3457 : (Jvm.Cond.laysFinal "WordTongueModel" "WordTongueModel" "tValue" "[I") ∈ lw_all := lw_g (lw_at lw_m14 83 rfl) rfl
theorem q3458 : (Jvm.Cond.soleField "WordTongueModel" "tValue") ∈ lw_all := lw_g (lw_at lw_m14 84 rfl) rfl
theorem q3459 : (Jvm.Cond.lays "WordTongueModel" "WordTongueModel" "faultOf" "I") ∈ lw_all := lw_g (lw_at lw_m14 85 rfl) rfl
theorem q3460 : (Jvm.Cond.soleField "WordTongueModel" "faultOf") ∈ lw_all := lw_g (lw_at lw_m14 86 rfl) rfl
theorem q3461 : (Jvm.Cond.lays "WordTongueModel" "WordTongueModel" "faultAt" "I") ∈ lw_all := lw_g (lw_at lw_m14 87 rfl) rfl
theorem q3462 : (Jvm.Cond.soleField "WordTongueModel" "faultAt") ∈ lw_all := lw_g (lw_at lw_m14 88 rfl) rfl
theorem q3463 : (Jvm.Cond.laysFinal "WordTongueModel" "WordTongueModel" "strs" "[B") ∈ lw_all := lw_g (lw_at lw_m14 89 rfl) rfl
theorem q3464 : (Jvm.Cond.soleField "WordTongueModel" "strs") ∈ lw_all := lw_g (lw_at lw_m14 90 rfl) rfl
theorem q3465 : (Jvm.Cond.lays "WordTongueModel" "WordTongueModel" "strsLen" "I") ∈ lw_all := lw_g (lw_at lw_m14 91 rfl) rfl
theorem q3466 : (Jvm.Cond.soleField "WordTongueModel" "strsLen") ∈ lw_all := lw_g (lw_at lw_m14 92 rfl) rfl
theorem q3467 : (Jvm.Cond.laysFinal "WordTongueModel" "WordTongueModel" "strAt" "[I") ∈ lw_all := lw_g (lw_at lw_m14 93 rfl) rfl
theorem q3468 : (Jvm.Cond.soleField "WordTongueModel" "strAt") ∈ lw_all := lw_g (lw_at lw_m14 94 rfl) rfl
theorem q3469 : (Jvm.Cond.laysFinal "WordTongueModel" "WordTongueModel" "strLen" "[I") ∈ lw_all := lw_g (lw_at lw_m14 95 rfl) rfl
theorem q3470 : (Jvm.Cond.soleField "WordTongueModel" "strLen") ∈ lw_all := lw_g (lw_at lw_m14 96 rfl) rfl
theorem q3471 : (Jvm.Cond.lays "WordTongueModel" "WordTongueModel" "strCount" "I") ∈ lw_all := lw_g (lw_at lw_m14 97 rfl) rfl
theorem q3472 : (Jvm.Cond.soleField "WordTongueModel" "strCount") ∈ lw_all := lw_g (lw_at lw_m14 98 rfl) rfl
theorem q3473 : (Jvm.Cond.lays "WordTongueModel" "WordTongueModel" "line" "I") ∈ lw_all := lw_g (lw_at lw_m14 99 rfl) rfl
theorem q3474 : (Jvm.Cond.soleField "WordTongueModel" "line") ∈ lw_all := lw_g (lw_at lw_m14 100 rfl) rfl
theorem q3475 : (Jvm.Cond.lays "WordTongueModel" "WordTongueModel" "lastLine" "I") ∈ lw_all := lw_g (lw_at lw_m14 101 rfl) rfl
theorem q3476 : (Jvm.Cond.soleField "WordTongueModel" "lastLine") ∈ lw_all := lw_g (lw_at lw_m14 102 rfl) rfl
theorem q3477 : (Jvm.Cond.lays "WordTongueModel" "WordTongueModel" "cValue" "I") ∈ lw_all := lw_g (lw_at lw_m14 103 rfl) rfl
theorem q3478 : (Jvm.Cond.soleField "WordTongueModel" "cValue") ∈ lw_all := lw_g (lw_at lw_m14 104 rfl) rfl
theorem q3479 : (Jvm.Cond.lays "WordTongueModel" "WordTongueModel" "number" "I") ∈ lw_all := lw_g (lw_at lw_m14 105 rfl) rfl
theorem q3480 : (Jvm.Cond.soleField "WordTongueModel" "number") ∈ lw_all := lw_g (lw_at lw_m14 106 rfl) rfl
theorem q3481 : (Jvm.Cond.lays "WordTongueModel" "WordTongueModel" "signLen" "I") ∈ lw_all := lw_g (lw_at lw_m14 107 rfl) rfl
theorem q3482 : (Jvm.Cond.soleField "WordTongueModel" "signLen") ∈ lw_all := lw_g (lw_at lw_m14 108 rfl) rfl
theorem q3483 : (Jvm.Cond.lays "WordTongueModel" "WordTongueModel" "nodes" "I") ∈ lw_all := lw_g (lw_at lw_m14 109 rfl) rfl
theorem q3484 : (Jvm.Cond.soleField "WordTongueModel" "nodes") ∈ lw_all := lw_g (lw_at lw_m14 110 rfl) rfl
theorem q3485 : (Jvm.Cond.laysFinal "WordTongueModel" "WordTongueModel" "nKind" "[B") ∈ lw_all := lw_g (lw_at lw_m14 111 rfl) rfl
theorem q3486 : (Jvm.Cond.soleField "WordTongueModel" "nKind") ∈ lw_all := lw_g (lw_at lw_m14 112 rfl) rfl
theorem q3487 : (Jvm.Cond.laysFinal "WordTongueModel" "WordTongueModel" "nTok" "[I") ∈ lw_all := lw_g (lw_at lw_m14 113 rfl) rfl
theorem q3488 : (Jvm.Cond.soleField "WordTongueModel" "nTok") ∈ lw_all := lw_g (lw_at lw_m14 114 rfl) rfl
theorem q3489 : (Jvm.Cond.laysFinal "WordTongueModel" "WordTongueModel" "nChild" "[I") ∈ lw_all := lw_g (lw_at lw_m14 115 rfl) rfl
theorem q3490 : (Jvm.Cond.soleField "WordTongueModel" "nChild") ∈ lw_all := lw_g (lw_at lw_m14 116 rfl) rfl
theorem q3491 : (Jvm.Cond.laysFinal "WordTongueModel" "WordTongueModel" "nNext" "[I") ∈ lw_all := lw_g (lw_at lw_m14 117 rfl) rfl
theorem q3492 : (Jvm.Cond.soleField "WordTongueModel" "nNext") ∈ lw_all := lw_g (lw_at lw_m14 118 rfl) rfl
theorem q3493 : (Jvm.Cond.laysFinal "WordTongueModel" "WordTongueModel" "nA" "[I") ∈ lw_all := lw_g (lw_at lw_m14 119 rfl) rfl
theorem q3494 : (Jvm.Cond.soleField "WordTongueModel" "nA") ∈ lw_all := lw_g (lw_at lw_m14 120 rfl) rfl
theorem q3495 : (Jvm.Cond.laysFinal "WordTongueModel" "WordTongueModel" "nB" "[I") ∈ lw_all := lw_g (lw_at lw_m14 121 rfl) rfl
theorem q3496 : (Jvm.Cond.soleField "WordTongueModel" "nB") ∈ lw_all := lw_g (lw_at lw_m14 122 rfl) rfl
theorem q3497 : (Jvm.Cond.laysFinal "WordTongueModel" "WordTongueModel" "nC" "[I") ∈ lw_all := lw_g (lw_at lw_m14 123 rfl) rfl
theorem q3498 : (Jvm.Cond.soleField "WordTongueModel" "nC") ∈ lw_all := lw_g (lw_at lw_m14 124 rfl) rfl
theorem q3499 : (Jvm.Cond.laysFinal "WordTongueModel" "WordTongueModel" "nPair" "[I") ∈ lw_all := lw_g (lw_at lw_m14 125 rfl) rfl
theorem q3500 : (Jvm.Cond.soleField "WordTongueModel" "nPair") ∈ lw_all := lw_g (lw_at lw_m14 126 rfl) rfl
theorem q3501 : (Jvm.Cond.laysFinal "WordTongueModel" "WordTongueModel" "nRel" "[I") ∈ lw_all := lw_g (lw_at lw_m14 127 rfl) rfl
theorem q3502 : (Jvm.Cond.soleField "WordTongueModel" "nRel") ∈ lw_all := lw_g (lw_at lw_m14 128 rfl) rfl
theorem q3503 : (Jvm.Cond.laysFinal "WordTongueModel" "WordTongueModel" "nFirst" "[I") ∈ lw_all := lw_g (lw_at lw_m14 129 rfl) rfl
theorem q3504 : (Jvm.Cond.soleField "WordTongueModel" "nFirst") ∈ lw_all := lw_g (lw_at lw_m14 130 rfl) rfl
theorem q3505 : (Jvm.Cond.laysFinal "WordTongueModel" "WordTongueModel" "nParen" "[Z") ∈ lw_all := lw_g (lw_at lw_m14 131 rfl) rfl
theorem q3506 : (Jvm.Cond.soleField "WordTongueModel" "nParen") ∈ lw_all := lw_g (lw_at lw_m14 132 rfl) rfl
theorem q3507 : (Jvm.Cond.laysFinal "WordTongueModel" "WordTongueModel" "out" "[I") ∈ lw_all := lw_g (lw_at lw_m14 133 rfl) rfl
theorem q3508 : (Jvm.Cond.soleField "WordTongueModel" "out") ∈ lw_all := lw_g (lw_at lw_m14 134 rfl) rfl
theorem q3509 : (Jvm.Cond.lays "WordTongueModel" "WordTongueModel" "outs" "I") ∈ lw_all := lw_g (lw_at lw_m14 135 rfl) rfl
theorem q3510 : (Jvm.Cond.soleField "WordTongueModel" "outs") ∈ lw_all := lw_g (lw_at lw_m14 136 rfl) rfl
theorem q3511 : (Jvm.Cond.lays "WordTongueModel" "WordTongueModel" "goals" "I") ∈ lw_all := lw_g (lw_at lw_m14 137 rfl) rfl
theorem q3512 : (Jvm.Cond.soleField "WordTongueModel" "goals") ∈ lw_all := lw_g (lw_at lw_m14 138 rfl) rfl
theorem q3513 : (Jvm.Cond.laysFinal "WordTongueModel" "WordTongueModel" "gKind" "[I") ∈ lw_all := lw_g (lw_at lw_m14 139 rfl) rfl
theorem q3514 : (Jvm.Cond.soleField "WordTongueModel" "gKind") ∈ lw_all := lw_g (lw_at lw_m14 140 rfl) rfl
theorem q3515 : (Jvm.Cond.laysFinal "WordTongueModel" "WordTongueModel" "gX" "[I") ∈ lw_all := lw_g (lw_at lw_m14 141 rfl) rfl
theorem q3516 : (Jvm.Cond.soleField "WordTongueModel" "gX") ∈ lw_all := lw_g (lw_at lw_m14 142 rfl) rfl
theorem q3517 : (Jvm.Cond.laysFinal "WordTongueModel" "WordTongueModel" "gY" "[I") ∈ lw_all := lw_g (lw_at lw_m14 143 rfl) rfl
theorem q3518 : (Jvm.Cond.soleField "WordTongueModel" "gY") ∈ lw_all := lw_g (lw_at lw_m14 144 rfl) rfl
theorem q3519 : (Jvm.Cond.laysFinal "WordTongueModel" "WordTongueModel" "gZ" "[I") ∈ lw_all := lw_g (lw_at lw_m14 145 rfl) rfl
theorem q3520 : (Jvm.Cond.soleField "WordTongueModel" "gZ") ∈ lw_all := lw_g (lw_at lw_m14 146 rfl) rfl
theorem q3521 : (Jvm.Cond.lays "WordTongueModel" "WordTongueModel" "at" "I") ∈ lw_all := lw_g (lw_at lw_m14 147 rfl) rfl
theorem q3522 : (Jvm.Cond.soleField "WordTongueModel" "at") ∈ lw_all := lw_g (lw_at lw_m14 148 rfl) rfl
theorem q3523 : (Jvm.Cond.lays "WordTongueModel" "WordTongueModel" "depth" "I") ∈ lw_all := lw_g (lw_at lw_m14 149 rfl) rfl
theorem q3524 : (Jvm.Cond.soleField "WordTongueModel" "depth") ∈ lw_all := lw_g (lw_at lw_m14 150 rfl) rfl
theorem q3525 : (Jvm.Cond.lays "WordTongueModel" "WordTongueModel" "sections" "I") ∈ lw_all := lw_g (lw_at lw_m14 151 rfl) rfl
theorem q3526 : (Jvm.Cond.soleField "WordTongueModel" "sections") ∈ lw_all := lw_g (lw_at lw_m14 152 rfl) rfl
theorem q3527 : (Jvm.Cond.laysFinal "WordTongueModel" "WordTongueModel" "secTag" "[I") ∈ lw_all := lw_g (lw_at lw_m14 153 rfl) rfl
theorem q3528 : (Jvm.Cond.soleField "WordTongueModel" "secTag") ∈ lw_all := lw_g (lw_at lw_m14 154 rfl) rfl
theorem q3529 : (Jvm.Cond.laysFinal "WordTongueModel" "WordTongueModel" "secDepth" "[I") ∈ lw_all := lw_g (lw_at lw_m14 155 rfl) rfl
theorem q3530 : (Jvm.Cond.soleField "WordTongueModel" "secDepth") ∈ lw_all := lw_g (lw_at lw_m14 156 rfl) rfl
theorem q3531 : (Jvm.Cond.lays "WordTongueModel" "WordTongueModel" "lexEnd" "I") ∈ lw_all := lw_g (lw_at lw_m14 157 rfl) rfl
theorem q3532 : (Jvm.Cond.soleField "WordTongueModel" "lexEnd") ∈ lw_all := lw_g (lw_at lw_m14 158 rfl) rfl
theorem q3533 : (Jvm.Cond.lays "WordTongueModel" "WordTongueModel" "entries" "I") ∈ lw_all := lw_g (lw_at lw_m14 159 rfl) rfl
theorem q3534 : (Jvm.Cond.soleField "WordTongueModel" "entries") ∈ lw_all := lw_g (lw_at lw_m14 160 rfl) rfl
theorem q3535 : (Jvm.Cond.laysFinal "WordTongueModel" "WordTongueModel" "eName" "[I") ∈ lw_all := lw_g (lw_at lw_m14 161 rfl) rfl
theorem q3536 : (Jvm.Cond.soleField "WordTongueModel" "eName") ∈ lw_all := lw_g (lw_at lw_m14 162 rfl) rfl
theorem q3537 : (Jvm.Cond.laysFinal "WordTongueModel" "WordTongueModel" "eKind" "[I") ∈ lw_all := lw_g (lw_at lw_m14 163 rfl) rfl
theorem q3538 : (Jvm.Cond.soleField "WordTongueModel" "eKind") ∈ lw_all := lw_g (lw_at lw_m14 164 rfl) rfl
theorem q3539 : (Jvm.Cond.laysFinal "WordTongueModel" "WordTongueModel" "eValue" "[I") ∈ lw_all := lw_g (lw_at lw_m14 165 rfl) rfl
theorem q3540 : (Jvm.Cond.soleField "WordTongueModel" "eValue") ∈ lw_all := lw_g (lw_at lw_m14 166 rfl) rfl
theorem q3541 : (Jvm.Cond.laysFinal "WordTongueModel" "WordTongueModel" "eState" "[I") ∈ lw_all := lw_g (lw_at lw_m14 167 rfl) rfl
theorem q3542 : (Jvm.Cond.soleField "WordTongueModel" "eState") ∈ lw_all := lw_g (lw_at lw_m14 168 rfl) rfl
theorem q3543 : (Jvm.Cond.laysFinal "WordTongueModel" "WordTongueModel" "eOther" "[I") ∈ lw_all := lw_g (lw_at lw_m14 169 rfl) rfl
theorem q3544 : (Jvm.Cond.soleField "WordTongueModel" "eOther") ∈ lw_all := lw_g (lw_at lw_m14 170 rfl) rfl
theorem q3545 : (Jvm.Cond.lays "WordTongueModel" "WordTongueModel" "blockBase" "I") ∈ lw_all := lw_g (lw_at lw_m14 171 rfl) rfl
theorem q3546 : (Jvm.Cond.soleField "WordTongueModel" "blockBase") ∈ lw_all := lw_g (lw_at lw_m14 172 rfl) rfl
theorem q3547 : (Jvm.Cond.laysFinal "WordTongueModel" "WordTongueModel" "libName" "[I") ∈ lw_all := lw_g (lw_at lw_m14 173 rfl) rfl
theorem q3548 : (Jvm.Cond.soleField "WordTongueModel" "libName") ∈ lw_all := lw_g (lw_at lw_m14 174 rfl) rfl
theorem q3549 : (Jvm.Cond.laysFinal "WordTongueModel" "WordTongueModel" "eTok" "[I") ∈ lw_all := lw_g (lw_at lw_m14 175 rfl) rfl
theorem q3550 : (Jvm.Cond.soleField "WordTongueModel" "eTok") ∈ lw_all := lw_g (lw_at lw_m14 176 rfl) rfl
theorem q3551 : (Jvm.Cond.lays "WordTongueModel" "WordTongueModel" "kGood" "Z") ∈ lw_all := lw_g (lw_at lw_m14 177 rfl) rfl
theorem q3552 : (Jvm.Cond.soleField "WordTongueModel" "kGood") ∈ lw_all := lw_g (lw_at lw_m14 178 rfl) rfl
theorem q3553 : (Jvm.Cond.lays "WordTongueModel" "WordTongueModel" "kValue" "I") ∈ lw_all := lw_g (lw_at lw_m14 179 rfl) rfl
theorem q3554 : (Jvm.Cond.soleField "WordTongueModel" "kValue") ∈ lw_all := lw_g (lw_at lw_m14 180 rfl) rfl
theorem q3555 : (Jvm.Cond.laysFinal "WordTongueModel" "WordTongueModel" "walk" "[I") ∈ lw_all := lw_g (lw_at lw_m14 181 rfl) rfl
theorem q3556 : (Jvm.Cond.soleField "WordTongueModel" "walk") ∈ lw_all := lw_g (lw_at lw_m14 182 rfl) rfl
theorem q3557 : (Jvm.Cond.laysFinal "WordTongueModel" "WordTongueModel" "step" "[I") ∈ lw_all := lw_g (lw_at lw_m14 183 rfl) rfl
theorem q3558 : (Jvm.Cond.soleField "WordTongueModel" "step") ∈ lw_all := lw_g (lw_at lw_m14 184 rfl) rfl
theorem q3559 : (Jvm.Cond.laysFinal "WordTongueModel" "WordTongueModel" "kWork" "[I") ∈ lw_all := lw_g (lw_at lw_m14 185 rfl) rfl
theorem q3560 : (Jvm.Cond.soleField "WordTongueModel" "kWork") ∈ lw_all := lw_g (lw_at lw_m14 186 rfl) rfl
theorem q3561 : (Jvm.Cond.lays "WordTongueModel" "WordTongueModel" "tasks" "I") ∈ lw_all := lw_g (lw_at lw_m14 187 rfl) rfl
theorem q3562 : (Jvm.Cond.soleField "WordTongueModel" "tasks") ∈ lw_all := lw_g (lw_at lw_m14 188 rfl) rfl
theorem q3563 : (Jvm.Cond.laysFinal "WordTongueModel" "WordTongueModel" "cTask" "[I") ∈ lw_all := lw_g (lw_at lw_m14 189 rfl) rfl
theorem q3564 : (Jvm.Cond.soleField "WordTongueModel" "cTask") ∈ lw_all := lw_g (lw_at lw_m14 190 rfl) rfl
theorem q3565 : (Jvm.Cond.laysFinal "WordTongueModel" "WordTongueModel" "cNode" "[I") ∈ lw_all := lw_g (lw_at lw_m14 191 rfl) rfl
theorem q3566 : (Jvm.Cond.soleField "WordTongueModel" "cNode") ∈ lw_all := lw_g (lw_at lw_m14 192 rfl) rfl
theorem q3567 : (Jvm.Cond.laysFinal "WordTongueModel" "WordTongueModel" "cAux" "[I") ∈ lw_all := lw_g (lw_at lw_m14 193 rfl) rfl
theorem q3568 : (Jvm.Cond.soleField "WordTongueModel" "cAux") ∈ lw_all := lw_g (lw_at lw_m14 194 rfl) rfl
theorem q3569 : (Jvm.Cond.lays "WordTongueModel" "WordTongueModel" "saved" "I") ∈ lw_all := lw_g (lw_at lw_m14 195 rfl) rfl
theorem q3570 : (Jvm.Cond.soleField "WordTongueModel" "saved") ∈ lw_all := lw_g (lw_at lw_m14 196 rfl) rfl
theorem q3571 : (Jvm.Cond.laysFinal "WordTongueModel" "WordTongueModel" "save" "[I") ∈ lw_all := lw_g (lw_at lw_m14 197 rfl) rfl
theorem q3572 : (Jvm.Cond.soleField "WordTongueModel" "save") ∈ lw_all := lw_g (lw_at lw_m14 198 rfl) rfl
theorem q3573 : (Jvm.Cond.lays "WordTongueModel" "WordTongueModel" "routines" "I") ∈ lw_all := lw_g (lw_at lw_m14 199 rfl) rfl
theorem q3574 : (Jvm.Cond.soleField "WordTongueModel" "routines") ∈ lw_all := lw_g (lw_at lw_m14 200 rfl) rfl
theorem q3575 : (Jvm.Cond.laysFinal "WordTongueModel" "WordTongueModel" "rMax" "[I") ∈ lw_all := lw_g (lw_at lw_m14 201 rfl) rfl
theorem q3576 : (Jvm.Cond.soleField "WordTongueModel" "rMax") ∈ lw_all := lw_g (lw_at lw_m14 202 rfl) rfl
theorem q3577 : (Jvm.Cond.laysFinal "WordTongueModel" "WordTongueModel" "rParams" "[I") ∈ lw_all := lw_g (lw_at lw_m14 203 rfl) rfl
theorem q3578 : (Jvm.Cond.soleField "WordTongueModel" "rParams") ∈ lw_all := lw_g (lw_at lw_m14 204 rfl) rfl
theorem q3579 : (Jvm.Cond.laysFinal "WordTongueModel" "WordTongueModel" "rBody" "[I") ∈ lw_all := lw_g (lw_at lw_m14 205 rfl) rfl
theorem q3580 : (Jvm.Cond.soleField "WordTongueModel" "rBody") ∈ lw_all := lw_g (lw_at lw_m14 206 rfl) rfl
theorem q3581 : (Jvm.Cond.lays "WordTongueModel" "WordTongueModel" "routine" "I") ∈ lw_all := lw_g (lw_at lw_m14 207 rfl) rfl
theorem q3582 : (Jvm.Cond.soleField "WordTongueModel" "routine") ∈ lw_all := lw_g (lw_at lw_m14 208 rfl) rfl
theorem q3583 : (Jvm.Cond.lays "WordTongueModel" "WordTongueModel" "inUse" "I") ∈ lw_all := lw_g (lw_at lw_m14 209 rfl) rfl
theorem q3584 : (Jvm.Cond.soleField "WordTongueModel" "inUse") ∈ lw_all := lw_g (lw_at lw_m14 210 rfl) rfl
theorem q3585 : (Jvm.Cond.lays "WordTongueModel" "WordTongueModel" "mostUse" "I") ∈ lw_all := lw_g (lw_at lw_m14 211 rfl) rfl
theorem q3586 : (Jvm.Cond.soleField "WordTongueModel" "mostUse") ∈ lw_all := lw_g (lw_at lw_m14 212 rfl) rfl
theorem q3587 : (Jvm.Cond.lays "WordTongueModel" "WordTongueModel" "gives" "Z") ∈ lw_all := lw_g (lw_at lw_m14 213 rfl) rfl
theorem q3588 : (Jvm.Cond.soleField "WordTongueModel" "gives") ∈ lw_all := lw_g (lw_at lw_m14 214 rfl) rfl
theorem q3589 : (Jvm.Cond.lays "WordTongueModel" "WordTongueModel" "valof" "I") ∈ lw_all := lw_g (lw_at lw_m14 215 rfl) rfl
theorem q3590 : (Jvm.Cond.soleField "WordTongueModel" "valof") ∈ lw_all := lw_g (lw_at lw_m14 216 rfl) rfl
theorem q3591 : (Jvm.Cond.lays "WordTongueModel" "WordTongueModel" "valofs" "I") ∈ lw_all := lw_g (lw_at lw_m14 217 rfl) rfl
theorem q3592 : (Jvm.Cond.soleField "WordTongueModel" "valofs") ∈ lw_all := lw_g (lw_at lw_m14 218 rfl) rfl
theorem q3593 : (Jvm.Cond.lays "WordTongueModel" "WordTongueModel" "loops" "I") ∈ lw_all := lw_g (lw_at lw_m14 219 rfl) rfl
theorem q3594 : (Jvm.Cond.soleField "WordTongueModel" "loops") ∈ lw_all := lw_g (lw_at lw_m14 220 rfl) rfl
theorem q3595 : (Jvm.Cond.lays "WordTongueModel" "WordTongueModel" "switches" "I") ∈ lw_all := lw_g (lw_at lw_m14 221 rfl) rfl
theorem q3596 : (Jvm.Cond.soleField "WordTongueModel" "switches") ∈ lw_all := lw_g (lw_at lw_m14 222 rfl) rfl
theorem q3597 : (Jvm.Cond.lays "WordTongueModel" "WordTongueModel" "words" "I") ∈ lw_all := lw_g (lw_at lw_m14 223 rfl) rfl
theorem q3598 : (Jvm.Cond.soleField "WordTongueModel" "words") ∈ lw_all := lw_g (lw_at lw_m14 224 rfl) rfl
theorem q3599 : (Jvm.Cond.lays "WordTongueModel" "WordTongueModel" "start" "I") ∈ lw_all := lw_g (lw_at lw_m14 225 rfl) rfl
theorem q3600 : (Jvm.Cond.soleField "WordTongueModel" "start") ∈ lw_all := lw_g (lw_at lw_m14 226 rfl) rfl
theorem q3601 : (Jvm.Cond.lays "WordTongueModel" "WordTongueModel" "startName" "I") ∈ lw_all := lw_g (lw_at lw_m14 227 rfl) rfl
theorem q3602 : (Jvm.Cond.soleField "WordTongueModel" "startName") ∈ lw_all := lw_g (lw_at lw_m14 228 rfl) rfl
theorem q3603 : (Jvm.Cond.lays "WordTongueModel" "WordTongueModel" "inits" "I") ∈ lw_all := lw_g (lw_at lw_m14 229 rfl) rfl
theorem q3604 : (Jvm.Cond.soleField "WordTongueModel" "inits") ∈ lw_all := lw_g (lw_at lw_m14 230 rfl) rfl
theorem q3605 : (Jvm.Cond.laysFinal "WordTongueModel" "WordTongueModel" "initAt" "[I") ∈ lw_all := lw_g (lw_at lw_m14 231 rfl) rfl
theorem q3606 : (Jvm.Cond.soleField "WordTongueModel" "initAt") ∈ lw_all := lw_g (lw_at lw_m14 232 rfl) rfl
theorem q3607 : (Jvm.Cond.laysFinal "WordTongueModel" "WordTongueModel" "initValue" "[I") ∈ lw_all := lw_g (lw_at lw_m14 233 rfl) rfl
theorem q3608 : (Jvm.Cond.soleField "WordTongueModel" "initValue") ∈ lw_all := lw_g (lw_at lw_m14 234 rfl) rfl
theorem q3609 : (Jvm.Cond.lays "WordTongueModel" "WordTongueModel" "todo" "I") ∈ lw_all := lw_g (lw_at lw_m14 235 rfl) rfl
theorem q3610 : (Jvm.Cond.soleField "WordTongueModel" "todo") ∈ lw_all := lw_g (lw_at lw_m14 236 rfl) rfl
theorem q3611 : (Jvm.Cond.lays "WordTongueModel" "WordTongueModel" "xTask" "[I") ∈ lw_all := lw_g (lw_at lw_m14 237 rfl) rfl
theorem q3612 : (Jvm.Cond.soleField "WordTongueModel" "xTask") ∈ lw_all := lw_g (lw_at lw_m14 238 rfl) rfl
theorem q3613 : (Jvm.Cond.lays "WordTongueModel" "WordTongueModel" "xNode" "[I") ∈ lw_all := lw_g (lw_at lw_m14 239 rfl) rfl
theorem q3614 : (Jvm.Cond.soleField "WordTongueModel" "xNode") ∈ lw_all := lw_g (lw_at lw_m15 0 rfl) rfl
theorem q3615 : (Jvm.Cond.lays "WordTongueModel" "WordTongueModel" "xAux" "[I") ∈ lw_all := lw_g (lw_at lw_m15 1 rfl) rfl
theorem q3616 : (Jvm.Cond.soleField "WordTongueModel" "xAux") ∈ lw_all := lw_g (lw_at lw_m15 2 rfl) rfl
theorem q3617 : (Jvm.Cond.lays "WordTongueModel" "WordTongueModel" "vals" "I") ∈ lw_all := lw_g (lw_at lw_m15 3 rfl) rfl
theorem q3618 : (Jvm.Cond.soleField "WordTongueModel" "vals") ∈ lw_all := lw_g (lw_at lw_m15 4 rfl) rfl
theorem q3619 : (Jvm.Cond.lays "WordTongueModel" "WordTongueModel" "val" "[I") ∈ lw_all := lw_g (lw_at lw_m15 5 rfl) rfl
theorem q3620 : (Jvm.Cond.soleField "WordTongueModel" "val") ∈ lw_all := lw_g (lw_at lw_m15 6 rfl) rfl
theorem q3621 : (Jvm.Cond.laysFinal "WordTongueModel" "WordTongueModel" "backB" "[I") ∈ lw_all := lw_g (lw_at lw_m15 7 rfl) rfl
theorem q3622 : (Jvm.Cond.soleField "WordTongueModel" "backB") ∈ lw_all := lw_g (lw_at lw_m15 8 rfl) rfl
theorem q3623 : (Jvm.Cond.laysFinal "WordTongueModel" "WordTongueModel" "backR" "[I") ∈ lw_all := lw_g (lw_at lw_m15 9 rfl) rfl
theorem q3624 : (Jvm.Cond.soleField "WordTongueModel" "backR") ∈ lw_all := lw_g (lw_at lw_m15 10 rfl) rfl
theorem q3625 : (Jvm.Cond.lays "WordTongueModel" "WordTongueModel" "under" "I") ∈ lw_all := lw_g (lw_at lw_m15 11 rfl) rfl
theorem q3626 : (Jvm.Cond.soleField "WordTongueModel" "under") ∈ lw_all := lw_g (lw_at lw_m15 12 rfl) rfl
theorem q3627 : (Jvm.Cond.lays "WordTongueModel" "WordTongueModel" "base" "I") ∈ lw_all := lw_g (lw_at lw_m15 13 rfl) rfl
theorem q3628 : (Jvm.Cond.soleField "WordTongueModel" "base") ∈ lw_all := lw_g (lw_at lw_m15 14 rfl) rfl
theorem q3629 : (Jvm.Cond.lays "WordTongueModel" "WordTongueModel" "running" "I") ∈ lw_all := lw_g (lw_at lw_m15 15 rfl) rfl
theorem q3630 : (Jvm.Cond.soleField "WordTongueModel" "running") ∈ lw_all := lw_g (lw_at lw_m15 16 rfl) rfl
theorem q3631 : (Jvm.Cond.laysFinal "WordTongueModel" "WordTongueModel" "store" "[I") ∈ lw_all := lw_g (lw_at lw_m15 17 rfl) rfl
theorem q3632 : (Jvm.Cond.soleField "WordTongueModel" "store") ∈ lw_all := lw_g (lw_at lw_m15 18 rfl) rfl
theorem q3633 : (Jvm.Cond.lays "WordTongueModel" "WordTongueModel" "size" "I") ∈ lw_all := lw_g (lw_at lw_m15 19 rfl) rfl
theorem q3634 : (Jvm.Cond.soleField "WordTongueModel" "size") ∈ lw_all := lw_g (lw_at lw_m15 20 rfl) rfl
theorem q3635 : (Jvm.Cond.lays "WordTongueModel" "WordTongueModel" "wanted" "I") ∈ lw_all := lw_g (lw_at lw_m15 21 rfl) rfl
theorem q3636 : (Jvm.Cond.soleField "WordTongueModel" "wanted") ∈ lw_all := lw_g (lw_at lw_m15 22 rfl) rfl
theorem q3637 : (Jvm.Cond.lays "WordTongueModel" "WordTongueModel" "fuelLeft" "I") ∈ lw_all := lw_g (lw_at lw_m15 23 rfl) rfl
theorem q3638 : (Jvm.Cond.soleField "WordTongueModel" "fuelLeft") ∈ lw_all := lw_g (lw_at lw_m15 24 rfl) rfl
theorem q3639 : (Jvm.Cond.lays "WordTongueModel" "WordTongueModel" "ended" "Z") ∈ lw_all := lw_g (lw_at lw_m15 25 rfl) rfl
theorem q3640 : (Jvm.Cond.soleField "WordTongueModel" "ended") ∈ lw_all := lw_g (lw_at lw_m15 26 rfl) rfl
theorem q3641 : (Jvm.Cond.lays "WordTongueModel" "WordTongueModel" "answer" "I") ∈ lw_all := lw_g (lw_at lw_m15 27 rfl) rfl
theorem q3642 : (Jvm.Cond.soleField "WordTongueModel" "answer") ∈ lw_all := lw_g (lw_at lw_m15 28 rfl) rfl
theorem q3643 : (Jvm.Cond.lays "WordTongueModel" "WordTongueModel" "result" "I") ∈ lw_all := lw_g (lw_at lw_m15 29 rfl) rfl
theorem q3644 : (Jvm.Cond.soleField "WordTongueModel" "result") ∈ lw_all := lw_g (lw_at lw_m15 30 rfl) rfl
theorem q3645 : (Jvm.Cond.lays "WordTongueModel" "WordTongueModel" "compiled" "Z") ∈ lw_all := lw_g (lw_at lw_m15 31 rfl) rfl
theorem q3646 : (Jvm.Cond.soleField "WordTongueModel" "compiled") ∈ lw_all := lw_g (lw_at lw_m15 32 rfl) rfl
theorem q3647 : (Jvm.Cond.lays "WordTongueModel" "WordTongueModel" "gots" "I") ∈ lw_all := lw_g (lw_at lw_m15 33 rfl) rfl
theorem q3648 : (Jvm.Cond.soleField "WordTongueModel" "gots") ∈ lw_all := lw_g (lw_at lw_m15 34 rfl) rfl
theorem q3649 : (Jvm.Cond.laysFinal "WordTongueModel" "WordTongueModel" "gotAt" "[I") ∈ lw_all := lw_g (lw_at lw_m15 35 rfl) rfl
theorem q3650 : (Jvm.Cond.soleField "WordTongueModel" "gotAt") ∈ lw_all := lw_g (lw_at lw_m15 36 rfl) rfl
theorem q3651 : (Jvm.Cond.laysFinal "WordTongueModel" "WordTongueModel" "gotLen" "[I") ∈ lw_all := lw_g (lw_at lw_m15 37 rfl) rfl
theorem q3652 : (Jvm.Cond.soleField "WordTongueModel" "gotLen") ∈ lw_all := lw_g (lw_at lw_m15 38 rfl) rfl
theorem q3653 : (Jvm.Cond.laysFinal "WordTongueModel" "WordTongueModel" "input" "[B") ∈ lw_all := lw_g (lw_at lw_m15 39 rfl) rfl
theorem q3654 : (Jvm.Cond.soleField "WordTongueModel" "input") ∈ lw_all := lw_g (lw_at lw_m15 40 rfl) rfl
theorem q3655 : (Jvm.Cond.laysFinal "WordTongueModel" "WordTongueModel" "runEnd" "[I") ∈ lw_all := lw_g (lw_at lw_m15 41 rfl) rfl
theorem q3656 : (Jvm.Cond.soleField "WordTongueModel" "runEnd") ∈ lw_all := lw_g (lw_at lw_m15 42 rfl) rfl
theorem q3657 : (Jvm.Cond.laysFinal "WordTongueModel" "WordTongueModel" "digitsFrom" "[I") ∈ lw_all := lw_g (lw_at lw_m15 43 rfl) rfl
theorem q3658 : (Jvm.Cond.soleField "WordTongueModel" "digitsFrom") ∈ lw_all := lw_g (lw_at lw_m15 44 rfl) rfl
theorem q3659 : (Jvm.Cond.laysFinal "WordTongueModel" "WordTongueModel" "inLen" "[I") ∈ lw_all := lw_g (lw_at lw_m15 45 rfl) rfl
theorem q3660 : (Jvm.Cond.soleField "WordTongueModel" "inLen") ∈ lw_all := lw_g (lw_at lw_m15 46 rfl) rfl
theorem q3661 : (Jvm.Cond.laysFinal "WordTongueModel" "WordTongueModel" "inAt" "[I") ∈ lw_all := lw_g (lw_at lw_m15 47 rfl) rfl
theorem q3662 : (Jvm.Cond.soleField "WordTongueModel" "inAt") ∈ lw_all := lw_g (lw_at lw_m15 48 rfl) rfl
theorem q3663 : (Jvm.Cond.lays "WordTongueModel" "WordTongueModel" "inNow" "I") ∈ lw_all := lw_g (lw_at lw_m15 49 rfl) rfl
theorem q3664 : (Jvm.Cond.soleField "WordTongueModel" "inNow") ∈ lw_all := lw_g (lw_at lw_m15 50 rfl) rfl
theorem q3665 : (Jvm.Cond.laysFinal "WordTongueModel" "WordTongueModel" "output" "[B") ∈ lw_all := lw_g (lw_at lw_m15 51 rfl) rfl
theorem q3666 : (Jvm.Cond.soleField "WordTongueModel" "output") ∈ lw_all := lw_g (lw_at lw_m15 52 rfl) rfl
theorem q3667 : (Jvm.Cond.laysFinal "WordTongueModel" "WordTongueModel" "outLen" "[I") ∈ lw_all := lw_g (lw_at lw_m15 53 rfl) rfl
theorem q3668 : (Jvm.Cond.soleField "WordTongueModel" "outLen") ∈ lw_all := lw_g (lw_at lw_m15 54 rfl) rfl
theorem q3669 : (Jvm.Cond.lays "WordTongueModel" "WordTongueModel" "outNow" "I") ∈ lw_all := lw_g (lw_at lw_m15 55 rfl) rfl
theorem q3670 : (Jvm.Cond.soleField "WordTongueModel" "outNow") ∈ lw_all := lw_g (lw_at lw_m15 56 rfl) rfl
theorem q3671 : (Jvm.Cond.laysFinal "WordTongueModel" "WordTongueModel" "figures" "[B") ∈ lw_all := lw_g (lw_at lw_m15 57 rfl) rfl
theorem q3672 : (Jvm.Cond.soleField "WordTongueModel" "figures") ∈ lw_all := lw_g (lw_at lw_m15 58 rfl) rfl
theorem q3673 : (Jvm.Cond.superclass "WordTongueModel" "java/lang/Object") ∈ lw_all := lw_g (lw_at lw_m15 59 rfl) rfl
theorem q3675 : (Jvm.Cond.instanceMethod ({ cls := "WordTongueModel", name := "thrown", desc := "()I" } : Jvm.MethodName)) ∈ lw_all := lw_g (lw_at lw_m15 61 rfl) rfl
theorem q3676 : (Jvm.Cond.selects "WordTongueModel" ({ cls := "WordTongueModel", name := "thrown", desc := "()I" } : Jvm.MethodName) ({ cls := "WordTongueModel", name := "thrown", desc := "()I" } : Jvm.MethodName)) ∈ lw_all := lw_g (lw_at lw_m15 62 rfl) rfl
theorem q3677 : (Jvm.Cond.code ({ cls := "WordTongueModel", name := "thrown", desc := "()I" } : Jvm.MethodName) prog_20_method_2_code (1 : Nat) (Option.some Jvm.ClassFile.FieldType.int)) ∈ lw_all := lw_g (lw_at lw_m15 63 rfl) rfl
theorem q3679 : (Jvm.Cond.instanceMethod ({ cls := "WordTongueModel", name := "feed", desc := "(IIIII)Z" } : Jvm.MethodName)) ∈ lw_all := lw_g (lw_at lw_m15 65 rfl) rfl
theorem q3680 : (Jvm.Cond.selects "WordTongueModel" ({ cls := "WordTongueModel", name := "feed", desc := "(IIIII)Z" } : Jvm.MethodName) ({ cls := "WordTongueModel", name := "feed", desc := "(IIIII)Z" } : Jvm.MethodName)) ∈ lw_all := lw_g (lw_at lw_m15 66 rfl) rfl
theorem q3681 : (Jvm.Cond.code ({ cls := "WordTongueModel", name := "feed", desc := "(IIIII)Z" } : Jvm.MethodName) prog_20_method_134_code (8 : Nat) (Option.some Jvm.ClassFile.FieldType.boolean)) ∈ lw_all := lw_g (lw_at lw_m15 67 rfl) rfl
theorem q3683 : (Jvm.Cond.instanceMethod ({ cls := "WordTongueModel", name := "end", desc := "(I)Z" } : Jvm.MethodName)) ∈ lw_all := lw_g (lw_at lw_m15 69 rfl) rfl
theorem q3684 : (Jvm.Cond.selects "WordTongueModel" ({ cls := "WordTongueModel", name := "end", desc := "(I)Z" } : Jvm.MethodName) ({ cls := "WordTongueModel", name := "end", desc := "(I)Z" } : Jvm.MethodName)) ∈ lw_all := lw_g (lw_at lw_m15 70 rfl) rfl
theorem q3685 : (Jvm.Cond.code ({ cls := "WordTongueModel", name := "end", desc := "(I)Z" } : Jvm.MethodName) prog_20_method_135_code (2 : Nat) (Option.some Jvm.ClassFile.FieldType.boolean)) ∈ lw_all := lw_g (lw_at lw_m15 71 rfl) rfl
theorem q3687 : (Jvm.Cond.instanceMethod ({ cls := "WordTongueModel", name := "compile", desc := "()I" } : Jvm.MethodName)) ∈ lw_all := lw_g (lw_at lw_m15 73 rfl) rfl
theorem q3688 : (Jvm.Cond.selects "WordTongueModel" ({ cls := "WordTongueModel", name := "compile", desc := "()I" } : Jvm.MethodName) ({ cls := "WordTongueModel", name := "compile", desc := "()I" } : Jvm.MethodName)) ∈ lw_all := lw_g (lw_at lw_m15 74 rfl) rfl
theorem q3689 : (Jvm.Cond.code ({ cls := "WordTongueModel", name := "compile", desc := "()I" } : Jvm.MethodName) prog_20_method_136_code (2 : Nat) (Option.some Jvm.ClassFile.FieldType.int)) ∈ lw_all := lw_g (lw_at lw_m15 75 rfl) rfl
theorem q3690 : (Jvm.Cond.methodLink "WordTongueModel" (917 : Nat) ({ cls := "WordTongueModel", name := "scan", desc := "()I" } : Jvm.MethodName)) ∈ lw_all := lw_g (lw_at lw_m15 76 rfl) rfl
theorem q3691 : (Jvm.Cond.privateMethod ({ cls := "WordTongueModel", name := "scan", desc := "()I" } : Jvm.MethodName)) ∈ lw_tbl := lw_at lw_m15 77 rfl
theorem q3692 : (Jvm.Cond.instanceMethod ({ cls := "WordTongueModel", name := "scan", desc := "()I" } : Jvm.MethodName)) ∈ lw_all := lw_g (lw_at lw_m15 78 rfl) rfl
theorem q3693 : (Jvm.Cond.code ({ cls := "WordTongueModel", name := "scan", desc := "()I" } : Jvm.MethodName) prog_20_method_19_code (3 : Nat) (Option.some Jvm.ClassFile.FieldType.int)) ∈ lw_all := lw_g (lw_at lw_m15 79 rfl) rfl
theorem q3694 : (Jvm.Cond.methodLink "WordTongueModel" (483 : Nat) ({ cls := "WordTongueModel", name := "look", desc := "(I)I" } : Jvm.MethodName)) ∈ lw_all := lw_g (lw_at lw_m15 80 rfl) rfl
theorem q3695 : (Jvm.Cond.privateMethod ({ cls := "WordTongueModel", name := "look", desc := "(I)I" } : Jvm.MethodName)) ∈ lw_tbl := lw_at lw_m15 81 rfl
theorem q3696 : (Jvm.Cond.instanceMethod ({ cls := "WordTongueModel", name := "look", desc := "(I)I" } : Jvm.MethodName)) ∈ lw_all := lw_g (lw_at lw_m15 82 rfl) rfl
theorem q3697 : (Jvm.Cond.code ({ cls := "WordTongueModel", name := "look", desc := "(I)I" } : Jvm.MethodName) prog_20_method_9_code (2 : Nat) (Option.some Jvm.ClassFile.FieldType.int)) ∈ lw_all := lw_g (lw_at lw_m15 83 rfl) rfl
theorem q3698 : (Jvm.Cond.methodLink "WordTongueModel" (493 : Nat) ({ cls := "WordTongueModel", name := "isPair", desc := "(III)Z" } : Jvm.MethodName)) ∈ lw_all := lw_g (lw_at lw_m15 84 rfl) rfl
theorem q3699 : (Jvm.Cond.privateMethod ({ cls := "WordTongueModel", name := "isPair", desc := "(III)Z" } : Jvm.MethodName)) ∈ lw_tbl := lw_at lw_m15 85 rfl
theorem q3700 : (Jvm.Cond.instanceMethod ({ cls := "WordTongueModel", name := "isPair", desc := "(III)Z" } : Jvm.MethodName)) ∈ lw_all := lw_g (lw_at lw_m15 86 rfl) rfl
theorem q3701 : (Jvm.Cond.code ({ cls := "WordTongueModel", name := "isPair", desc := "(III)Z" } : Jvm.MethodName) prog_20_method_17_code (4 : Nat) (Option.some Jvm.ClassFile.FieldType.boolean)) ∈ lw_all := lw_g (lw_at lw_m15 87 rfl) rfl
theorem q3702 : (Jvm.Cond.methodLink "WordTongueModel" (497 : Nat) ({ cls := "WordTongueModel", name := "one", desc := "(II)I" } : Jvm.MethodName)) ∈ lw_all := lw_g (lw_at lw_m15 88 rfl) rfl
theorem q3703 : (Jvm.Cond.privateMethod ({ cls := "WordTongueModel", name := "one", desc := "(II)I" } : Jvm.MethodName)) ∈ lw_tbl := lw_at lw_m15 89 rfl
theorem q3704 : (Jvm.Cond.instanceMethod ({ cls := "WordTongueModel", name := "one", desc := "(II)I" } : Jvm.MethodName)) ∈ lw_all := lw_g (lw_at lw_m15 90 rfl) rfl
theorem q3705 : (Jvm.Cond.code ({ cls := "WordTongueModel", name := "one", desc := "(II)I" } : Jvm.MethodName) prog_20_method_20_code (6 : Nat) (Option.some Jvm.ClassFile.FieldType.int)) ∈ lw_all := lw_g (lw_at lw_m15 91 rfl) rfl
theorem q3706 : (Jvm.Cond.methodLink "WordTongueModel" (467 : Nat) ({ cls := "WordTongueModel", name := "isLetter", desc := "(I)Z" } : Jvm.MethodName)) ∈ lw_all := lw_g (lw_at lw_m15 92 rfl) rfl
theorem q3707 : (Jvm.Cond.static ({ cls := "WordTongueModel", name := "isLetter", desc := "(I)Z" } : Jvm.MethodName)) ∈ lw_all := lw_g (lw_at lw_m15 93 rfl) rfl
theorem q3708 : (Jvm.Cond.code ({ cls := "WordTongueModel", name := "isLetter", desc := "(I)Z" } : Jvm.MethodName) prog_20_method_6_code (1 : Nat) (Option.some Jvm.ClassFile.FieldType.boolean)) ∈ lw_all := lw_g (lw_at lw_m15 94 rfl) rfl
theorem q3709 : (Jvm.Cond.methodLink "WordTongueModel" (500 : Nat) ({ cls := "WordTongueModel", name := "isRest", desc := "(I)Z" } : Jvm.MethodName)) ∈ lw_all := lw_g (lw_at lw_m15 95 rfl) rfl
theorem q3710 : (Jvm.Cond.static ({ cls := "WordTongueModel", name := "isRest", desc := "(I)Z" } : Jvm.MethodName)) ∈ lw_all := lw_g (lw_at lw_m15 96 rfl) rfl
theorem q3711 : (Jvm.Cond.code ({ cls := "WordTongueModel", name := "isRest", desc := "(I)Z" } : Jvm.MethodName) prog_20_method_8_code (1 : Nat) (Option.some Jvm.ClassFile.FieldType.boolean)) ∈ lw_all := lw_g (lw_at lw_m15 97 rfl) rfl
theorem q3712 : (Jvm.Cond.methodLink "WordTongueModel" (471 : Nat) ({ cls := "WordTongueModel", name := "isDigit", desc := "(I)Z" } : Jvm.MethodName)) ∈ lw_all := lw_g (lw_at lw_m15 98 rfl) rfl
theorem q3713 : (Jvm.Cond.static ({ cls := "WordTongueModel", name := "isDigit", desc := "(I)Z" } : Jvm.MethodName)) ∈ lw_all := lw_g (lw_at lw_m15 99 rfl) rfl
theorem q3714 : (Jvm.Cond.code ({ cls := "WordTongueModel", name := "isDigit", desc := "(I)Z" } : Jvm.MethodName) prog_20_method_7_code (1 : Nat) (Option.some Jvm.ClassFile.FieldType.boolean)) ∈ lw_all := lw_g (lw_at lw_m15 100 rfl) rfl
theorem q3715 : (Jvm.Cond.methodLink "WordTongueModel" (503 : Nat) ({ cls := "WordTongueModel", name := "keyword", desc := "(II)I" } : Jvm.MethodName)) ∈ lw_all := lw_g (lw_at lw_m15 101 rfl) rfl
theorem q3716 : (Jvm.Cond.privateMethod ({ cls := "WordTongueModel", name := "keyword", desc := "(II)I" } : Jvm.MethodName)) ∈ lw_tbl := lw_at lw_m15 102 rfl
theorem q3717 : (Jvm.Cond.instanceMethod ({ cls := "WordTongueModel", name := "keyword", desc := "(II)I" } : Jvm.MethodName)) ∈ lw_all := lw_g (lw_at lw_m15 103 rfl) rfl
theorem q3718 : (Jvm.Cond.code ({ cls := "WordTongueModel", name := "keyword", desc := "(II)I" } : Jvm.MethodName) prog_20_method_5_code (3 : Nat) (Option.some Jvm.ClassFile.FieldType.int)) ∈ lw_all := lw_g (lw_at lw_m15 104 rfl) rfl
theorem q3719 : (Jvm.Cond.constantLong "WordTongueModel" (375 : Nat) (78393072828748 : Int64)) ∈ lw_all := lw_g (lw_at lw_m15 105 rfl) rfl
theorem q3720 : (Jvm.Cond.methodLink "WordTongueModel" (377 : Nat) ({ cls := "WordTongueModel", name := "isText", desc := "(IIJJ)Z" } : Jvm.MethodName)) ∈ lw_all := lw_g (lw_at lw_m15 106 rfl) rfl
theorem q3721 : (Jvm.Cond.privateMethod ({ cls := "WordTongueModel", name := "isText", desc := "(IIJJ)Z" } : Jvm.MethodName)) ∈ lw_tbl := lw_at lw_m15 107 rfl
theorem q3722 : (Jvm.Cond.instanceMethod ({ cls := "WordTongueModel", name := "isText", desc := "(IIJJ)Z" } : Jvm.MethodName)) ∈ lw_all := lw_g (lw_at lw_m15 108 rfl) rfl
theorem q3723 : (Jvm.Cond.code ({ cls := "WordTongueModel", name := "isText", desc := "(IIJJ)Z" } : Jvm.MethodName) prog_20_method_4_code (12 : Nat) (Option.some Jvm.ClassFile.FieldType.boolean)) ∈ lw_all := lw_g (lw_at lw_m15 109 rfl) rfl
theorem q3724 : (Jvm.Cond.constantLong "WordTongueModel" (381 : Nat) (5566816691025171284 : Int64)) ∈ lw_all := lw_g (lw_at lw_m15 110 rfl) rfl
theorem q3725 : (Jvm.Cond.constantLong "WordTongueModel" (383 : Nat) (91621338401091 : Int64)) ∈ lw_all := lw_g (lw_at lw_m15 111 rfl) rfl
theorem q3726 : (Jvm.Cond.constantLong "WordTongueModel" (385 : Nat) (4998484 : Int64)) ∈ lw_all := lw_g (lw_at lw_m15 112 rfl) rfl
theorem q3727 : (Jvm.Cond.constantLong "WordTongueModel" (387 : Nat) (4279876 : Int64)) ∈ lw_all := lw_g (lw_at lw_m15 113 rfl) rfl
theorem q3728 : (Jvm.Cond.constantLong "WordTongueModel" (389 : Nat) (16965 : Int64)) ∈ lw_all := lw_g (lw_at lw_m15 114 rfl) rfl
theorem q3729 : (Jvm.Cond.constantLong "WordTongueModel" (391 : Nat) (5653827 : Int64)) ∈ lw_all := lw_g (lw_at lw_m15 115 rfl) rfl
theorem q3730 : (Jvm.Cond.constantLong "WordTongueModel" (393 : Nat) (18758 : Int64)) ∈ lw_all := lw_g (lw_at lw_m15 116 rfl) rfl
theorem q3731 : (Jvm.Cond.constantLong "WordTongueModel" (395 : Nat) (17487 : Int64)) ∈ lw_all := lw_g (lw_at lw_m15 117 rfl) rfl
theorem q3732 : (Jvm.Cond.constantLong "WordTongueModel" (397 : Nat) (93794775421779 : Int64)) ∈ lw_all := lw_g (lw_at lw_m15 118 rfl) rfl
theorem q3733 : (Jvm.Cond.constantLong "WordTongueModel" (399 : Nat) (1413829460 : Int64)) ∈ lw_all := lw_g (lw_at lw_m15 119 rfl) rfl
theorem q3734 : (Jvm.Cond.constantLong "WordTongueModel" (401 : Nat) (20306 : Int64)) ∈ lw_all := lw_g (lw_at lw_m15 120 rfl) rfl
theorem q3735 : (Jvm.Cond.constantLong "WordTongueModel" (403 : Nat) (374874917957 : Int64)) ∈ lw_all := lw_g (lw_at lw_m15 121 rfl) rfl
theorem q3736 : (Jvm.Cond.constantLong "WordTongueModel" (405 : Nat) (366386366796 : Int64)) ∈ lw_all := lw_g (lw_at lw_m15 122 rfl) rfl
theorem q3737 : (Jvm.Cond.constantLong "WordTongueModel" (407 : Nat) (4607826 : Int64)) ∈ lw_all := lw_g (lw_at lw_m15 123 rfl) rfl
theorem q3738 : (Jvm.Cond.constantLong "WordTongueModel" (409 : Nat) (21583 : Int64)) ∈ lw_all := lw_g (lw_at lw_m15 124 rfl) rfl
theorem q3739 : (Jvm.Cond.constantLong "WordTongueModel" (411 : Nat) (16985 : Int64)) ∈ lw_all := lw_g (lw_at lw_m15 125 rfl) rfl
theorem q3740 : (Jvm.Cond.constantLong "WordTongueModel" (413 : Nat) (6005349254376738638 : Int64)) ∈ lw_all := lw_g (lw_at lw_m15 126 rfl) rfl
theorem q3741 : (Jvm.Cond.constantLong "WordTongueModel" (415 : Nat) (1229870159 : Int64)) ∈ lw_all := lw_g (lw_at lw_m15 127 rfl) rfl
theorem q3742 : (Jvm.Cond.constantLong "WordTongueModel" (417 : Nat) (1128354629 : Int64)) ∈ lw_all := lw_g (lw_at lw_m15 128 rfl) rfl
theorem q3743 : (Jvm.Cond.constantLong "WordTongueModel" (419 : Nat) (19216466462461012 : Int64)) ∈ lw_all := lw_g (lw_at lw_m15 129 rfl) rfl
theorem q3744 : (Jvm.Cond.constantLong "WordTongueModel" (421 : Nat) (284848111947 : Int64)) ∈ lw_all := lw_g (lw_at lw_m15 130 rfl) rfl
theorem q3745 : (Jvm.Cond.constantLong "WordTongueModel" (423 : Nat) (1280266064 : Int64)) ∈ lw_all := lw_g (lw_at lw_m15 131 rfl) rfl
theorem q3746 : (Jvm.Cond.constantLong "WordTongueModel" (425 : Nat) (19507828486132549 : Int64)) ∈ lw_all := lw_g (lw_at lw_m15 132 rfl) rfl
theorem q3747 : (Jvm.Cond.constantLong "WordTongueModel" (427 : Nat) (90457721098830 : Int64)) ∈ lw_all := lw_g (lw_at lw_m15 133 rfl) rfl
theorem q3748 : (Jvm.Cond.constantLong "WordTongueModel" (429 : Nat) (5928236110321043795 : Int64)) ∈ lw_all := lw_g (lw_at lw_m15 134 rfl) rfl
theorem q3749 : (Jvm.Cond.constantLong "WordTongueModel" (431 : Nat) (77280659985224 : Int64)) ∈ lw_all := lw_g (lw_at lw_m15 135 rfl) rfl
theorem q3750 : (Jvm.Cond.constantLong "WordTongueModel" (433 : Nat) (1196381263 : Int64)) ∈ lw_all := lw_g (lw_at lw_m15 136 rfl) rfl
theorem q3751 : (Jvm.Cond.constantLong "WordTongueModel" (435 : Nat) (90457652937044 : Int64)) ∈ lw_all := lw_g (lw_at lw_m15 137 rfl) rfl
theorem q3752 : (Jvm.Cond.constantLong "WordTongueModel" (437 : Nat) (5928232742882137928 : Int64)) ∈ lw_all := lw_g (lw_at lw_m15 138 rfl) rfl
theorem q3753 : (Jvm.Cond.constantLong "WordTongueModel" (439 : Nat) (4803653 : Int64)) ∈ lw_all := lw_g (lw_at lw_m15 139 rfl) rfl
theorem q3754 : (Jvm.Cond.constantLong "WordTongueModel" (441 : Nat) (5928232742882137422 : Int64)) ∈ lw_all := lw_g (lw_at lw_m15 140 rfl) rfl
theorem q3755 : (Jvm.Cond.constantLong "WordTongueModel" (443 : Nat) (5523788 : Int64)) ∈ lw_all := lw_g (lw_at lw_m15 141 rfl) rfl
theorem q3756 : (Jvm.Cond.constantLong "WordTongueModel" (445 : Nat) (4542806 : Int64)) ∈ lw_all := lw_g (lw_at lw_m15 142 rfl) rfl
theorem q3757 : (Jvm.Cond.constantLong "WordTongueModel" (447 : Nat) (1313165654 : Int64)) ∈ lw_all := lw_g (lw_at lw_m15 143 rfl) rfl
theorem q3758 : (Jvm.Cond.constantLong "WordTongueModel" (449 : Nat) (5391693 : Int64)) ∈ lw_all := lw_g (lw_at lw_m15 144 rfl) rfl
theorem q3759 : (Jvm.Cond.constantLong "WordTongueModel" (451 : Nat) (1414681925 : Int64)) ∈ lw_all := lw_g (lw_at lw_m15 145 rfl) rfl
theorem q3760 : (Jvm.Cond.constantLong "WordTongueModel" (453 : Nat) (301743231813 : Int64)) ∈ lw_all := lw_g (lw_at lw_m15 146 rfl) rfl
theorem q3761 : (Jvm.Cond.constantLong "WordTongueModel" (455 : Nat) (370462707526 : Int64)) ∈ lw_all := lw_g (lw_at lw_m15 147 rfl) rfl
theorem q3762 : (Jvm.Cond.constantLong "WordTongueModel" (457 : Nat) (361872116805 : Int64)) ∈ lw_all := lw_g (lw_at lw_m15 148 rfl) rfl
theorem q3763 : (Jvm.Cond.constantLong "WordTongueModel" (459 : Nat) (4670804 : Int64)) ∈ lw_all := lw_g (lw_at lw_m15 149 rfl) rfl
theorem q3764 : (Jvm.Cond.constantLong "WordTongueModel" (461 : Nat) (1414022478 : Int64)) ∈ lw_all := lw_g (lw_at lw_m15 150 rfl) rfl
theorem q3765 : (Jvm.Cond.constantLong "WordTongueModel" (463 : Nat) (1162629957 : Int64)) ∈ lw_all := lw_g (lw_at lw_m15 151 rfl) rfl
theorem q3766 : (Jvm.Cond.constantLong "WordTongueModel" (465 : Nat) (5132116 : Int64)) ∈ lw_all := lw_g (lw_at lw_m15 152 rfl) rfl
theorem q3767 : (Jvm.Cond.methodLink "WordTongueModel" (506 : Nat) ({ cls := "WordTongueModel", name := "nameOf", desc := "(II)I" } : Jvm.MethodName)) ∈ lw_all := lw_g (lw_at lw_m15 153 rfl) rfl
theorem q3768 : (Jvm.Cond.privateMethod ({ cls := "WordTongueModel", name := "nameOf", desc := "(II)I" } : Jvm.MethodName)) ∈ lw_tbl := lw_at lw_m15 154 rfl
theorem q3769 : (Jvm.Cond.instanceMethod ({ cls := "WordTongueModel", name := "nameOf", desc := "(II)I" } : Jvm.MethodName)) ∈ lw_all := lw_g (lw_at lw_m15 155 rfl) rfl
theorem q3770 : (Jvm.Cond.code ({ cls := "WordTongueModel", name := "nameOf", desc := "(II)I" } : Jvm.MethodName) prog_20_method_3_code (6 : Nat) (Option.some Jvm.ClassFile.FieldType.int)) ∈ lw_all := lw_g (lw_at lw_m15 156 rfl) rfl
theorem q3771 : (Jvm.Cond.methodLink "WordTongueModel" (509 : Nat) ({ cls := "WordTongueModel", name := "token", desc := "(III)V" } : Jvm.MethodName)) ∈ lw_all := lw_g (lw_at lw_m15 157 rfl) rfl
theorem q3772 : (Jvm.Cond.privateMethod ({ cls := "WordTongueModel", name := "token", desc := "(III)V" } : Jvm.MethodName)) ∈ lw_tbl := lw_at lw_m15 158 rfl
theorem q3773 : (Jvm.Cond.instanceMethod ({ cls := "WordTongueModel", name := "token", desc := "(III)V" } : Jvm.MethodName)) ∈ lw_all := lw_g (lw_at lw_m15 159 rfl) rfl
theorem q3774 : (Jvm.Cond.code ({ cls := "WordTongueModel", name := "token", desc := "(III)V" } : Jvm.MethodName) prog_20_method_13_code (4 : Nat) (Option.none : Option Jvm.ClassFile.FieldType)) ∈ lw_all := lw_g (lw_at lw_m15 160 rfl) rfl
theorem q3775 : (Jvm.Cond.methodLink "WordTongueModel" (477 : Nat) ({ cls := "WordTongueModel", name := "endsLine", desc := "(I)Z" } : Jvm.MethodName)) ∈ lw_all := lw_g (lw_at lw_m15 161 rfl) rfl
theorem q3776 : (Jvm.Cond.static ({ cls := "WordTongueModel", name := "endsLine", desc := "(I)Z" } : Jvm.MethodName)) ∈ lw_all := lw_g (lw_at lw_m15 162 rfl) rfl
theorem q3777 : (Jvm.Cond.code ({ cls := "WordTongueModel", name := "endsLine", desc := "(I)Z" } : Jvm.MethodName) prog_20_method_10_code (1 : Nat) (Option.some Jvm.ClassFile.FieldType.boolean)) ∈ lw_all := lw_g (lw_at lw_m15 163 rfl) rfl
theorem q3778 : (Jvm.Cond.methodLink "WordTongueModel" (480 : Nat) ({ cls := "WordTongueModel", name := "isBeginning", desc := "(I)Z" } : Jvm.MethodName)) ∈ lw_all := lw_g (lw_at lw_m15 164 rfl) rfl
theorem q3779 : (Jvm.Cond.static ({ cls := "WordTongueModel", name := "isBeginning", desc := "(I)Z" } : Jvm.MethodName)) ∈ lw_all := lw_g (lw_at lw_m15 165 rfl) rfl
theorem q3780 : (Jvm.Cond.code ({ cls := "WordTongueModel", name := "isBeginning", desc := "(I)Z" } : Jvm.MethodName) prog_20_method_11_code (1 : Nat) (Option.some Jvm.ClassFile.FieldType.boolean)) ∈ lw_all := lw_g (lw_at lw_m15 166 rfl) rfl
theorem q3781 : (Jvm.Cond.methodLink "WordTongueModel" (474 : Nat) ({ cls := "WordTongueModel", name := "isDoless", desc := "(I)Z" } : Jvm.MethodName)) ∈ lw_all := lw_g (lw_at lw_m15 167 rfl) rfl
theorem q3782 : (Jvm.Cond.static ({ cls := "WordTongueModel", name := "isDoless", desc := "(I)Z" } : Jvm.MethodName)) ∈ lw_all := lw_g (lw_at lw_m15 168 rfl) rfl
theorem q3783 : (Jvm.Cond.code ({ cls := "WordTongueModel", name := "isDoless", desc := "(I)Z" } : Jvm.MethodName) prog_20_method_12_code (1 : Nat) (Option.some Jvm.ClassFile.FieldType.boolean)) ∈ lw_all := lw_g (lw_at lw_m15 169 rfl) rfl
theorem q3784 : (Jvm.Cond.methodLink "WordTongueModel" (513 : Nat) ({ cls := "WordTongueModel", name := "digits", desc := "(II)I" } : Jvm.MethodName)) ∈ lw_all := lw_g (lw_at lw_m15 170 rfl) rfl
theorem q3785 : (Jvm.Cond.privateMethod ({ cls := "WordTongueModel", name := "digits", desc := "(II)I" } : Jvm.MethodName)) ∈ lw_tbl := lw_at lw_m15 171 rfl
theorem q3786 : (Jvm.Cond.instanceMethod ({ cls := "WordTongueModel", name := "digits", desc := "(II)I" } : Jvm.MethodName)) ∈ lw_all := lw_g (lw_at lw_m15 172 rfl) rfl
theorem q3787 : (Jvm.Cond.code ({ cls := "WordTongueModel", name := "digits", desc := "(II)I" } : Jvm.MethodName) prog_20_method_16_code (9 : Nat) (Option.some Jvm.ClassFile.FieldType.int)) ∈ lw_all := lw_g (lw_at lw_m15 173 rfl) rfl
theorem q3788 : (Jvm.Cond.constantLong "WordTongueModel" (491 : Nat) (4294967296 : Int64)) ∈ lw_all := lw_g (lw_at lw_m15 174 rfl) rfl
theorem q3789 : (Jvm.Cond.methodLink "WordTongueModel" (487 : Nat) ({ cls := "WordTongueModel", name := "oneC", desc := "(II)I" } : Jvm.MethodName)) ∈ lw_all := lw_g (lw_at lw_m15 175 rfl) rfl
theorem q3790 : (Jvm.Cond.privateMethod ({ cls := "WordTongueModel", name := "oneC", desc := "(II)I" } : Jvm.MethodName)) ∈ lw_tbl := lw_at lw_m15 176 rfl
theorem q3791 : (Jvm.Cond.instanceMethod ({ cls := "WordTongueModel", name := "oneC", desc := "(II)I" } : Jvm.MethodName)) ∈ lw_all := lw_g (lw_at lw_m15 177 rfl) rfl
theorem q3792 : (Jvm.Cond.code ({ cls := "WordTongueModel", name := "oneC", desc := "(II)I" } : Jvm.MethodName) prog_20_method_14_code (5 : Nat) (Option.some Jvm.ClassFile.FieldType.int)) ∈ lw_all := lw_g (lw_at lw_m15 178 rfl) rfl
theorem q3793 : (Jvm.Cond.methodLink "WordTongueModel" (516 : Nat) ({ cls := "WordTongueModel", name := "stringAt", desc := "(I)I" } : Jvm.MethodName)) ∈ lw_all := lw_g (lw_at lw_m15 179 rfl) rfl
theorem q3794 : (Jvm.Cond.privateMethod ({ cls := "WordTongueModel", name := "stringAt", desc := "(I)I" } : Jvm.MethodName)) ∈ lw_tbl := lw_at lw_m15 180 rfl
theorem q3795 : (Jvm.Cond.instanceMethod ({ cls := "WordTongueModel", name := "stringAt", desc := "(I)I" } : Jvm.MethodName)) ∈ lw_all := lw_g (lw_at lw_m15 181 rfl) rfl
theorem q3796 : (Jvm.Cond.code ({ cls := "WordTongueModel", name := "stringAt", desc := "(I)I" } : Jvm.MethodName) prog_20_method_15_code (5 : Nat) (Option.some Jvm.ClassFile.FieldType.int)) ∈ lw_all := lw_g (lw_at lw_m15 182 rfl) rfl
theorem q3797 : (Jvm.Cond.methodLink "WordTongueModel" (519 : Nat) ({ cls := "WordTongueModel", name := "signAt", desc := "(I)I" } : Jvm.MethodName)) ∈ lw_all := lw_g (lw_at lw_m15 183 rfl) rfl
theorem q3798 : (Jvm.Cond.privateMethod ({ cls := "WordTongueModel", name := "signAt", desc := "(I)I" } : Jvm.MethodName)) ∈ lw_tbl := lw_at lw_m15 184 rfl
theorem q3799 : (Jvm.Cond.instanceMethod ({ cls := "WordTongueModel", name := "signAt", desc := "(I)I" } : Jvm.MethodName)) ∈ lw_all := lw_g (lw_at lw_m15 185 rfl) rfl
theorem q3800 : (Jvm.Cond.code ({ cls := "WordTongueModel", name := "signAt", desc := "(I)I" } : Jvm.MethodName) prog_20_method_18_code (3 : Nat) (Option.some Jvm.ClassFile.FieldType.int)) ∈ lw_all := lw_g (lw_at lw_m15 186 rfl) rfl
theorem q3801 : (Jvm.Cond.methodLink "WordTongueModel" (920 : Nat) ({ cls := "WordTongueModel", name := "parse", desc := "()Z" } : Jvm.MethodName)) ∈ lw_all := lw_g (lw_at lw_m15 187 rfl) rfl
theorem q3802 : (Jvm.Cond.privateMethod ({ cls := "WordTongueModel", name := "parse", desc := "()Z" } : Jvm.MethodName)) ∈ lw_tbl := lw_at lw_m15 188 rfl
theorem q3803 : (Jvm.Cond.instanceMethod ({ cls := "WordTongueModel", name := "parse", desc := "()Z" } : Jvm.MethodName)) ∈ lw_all := lw_g (lw_at lw_m15 189 rfl) rfl
theorem q3804 : (Jvm.Cond.code ({ cls := "WordTongueModel", name := "parse", desc := "()Z" } : Jvm.MethodName) prog_20_method_33_code (1 : Nat) (Option.some Jvm.ClassFile.FieldType.boolean)) ∈ lw_all := lw_g (lw_at lw_m15 190 rfl) rfl
theorem q3805 : (Jvm.Cond.methodLink "WordTongueModel" (534 : Nat) ({ cls := "WordTongueModel", name := "goal", desc := "(IIII)V" } : Jvm.MethodName)) ∈ lw_all := lw_g (lw_at lw_m15 191 rfl) rfl
theorem q3806 : (Jvm.Cond.privateMethod ({ cls := "WordTongueModel", name := "goal", desc := "(IIII)V" } : Jvm.MethodName)) ∈ lw_tbl := lw_at lw_m15 192 rfl
theorem q3807 : (Jvm.Cond.instanceMethod ({ cls := "WordTongueModel", name := "goal", desc := "(IIII)V" } : Jvm.MethodName)) ∈ lw_all := lw_g (lw_at lw_m15 193 rfl) rfl
theorem q3808 : (Jvm.Cond.code ({ cls := "WordTongueModel", name := "goal", desc := "(IIII)V" } : Jvm.MethodName) prog_20_method_25_code (5 : Nat) (Option.none : Option Jvm.ClassFile.FieldType)) ∈ lw_all := lw_g (lw_at lw_m15 194 rfl) rfl
theorem q3809 : (Jvm.Cond.methodLink "WordTongueModel" (538 : Nat) ({ cls := "WordTongueModel", name := "reach", desc := "(IIII)Z" } : Jvm.MethodName)) ∈ lw_all := lw_g (lw_at lw_m15 195 rfl) rfl
theorem q3810 : (Jvm.Cond.privateMethod ({ cls := "WordTongueModel", name := "reach", desc := "(IIII)Z" } : Jvm.MethodName)) ∈ lw_tbl := lw_at lw_m15 196 rfl
theorem q3811 : (Jvm.Cond.instanceMethod ({ cls := "WordTongueModel", name := "reach", desc := "(IIII)Z" } : Jvm.MethodName)) ∈ lw_all := lw_g (lw_at lw_m15 197 rfl) rfl
theorem q3812 : (Jvm.Cond.code ({ cls := "WordTongueModel", name := "reach", desc := "(IIII)Z" } : Jvm.MethodName) prog_20_method_34_code (6 : Nat) (Option.some Jvm.ClassFile.FieldType.boolean)) ∈ lw_all := lw_g (lw_at lw_m15 198 rfl) rfl
theorem q3813 : (Jvm.Cond.methodLink "WordTongueModel" (546 : Nat) ({ cls := "WordTongueModel", name := "reachE", desc := "(IIII)Z" } : Jvm.MethodName)) ∈ lw_all := lw_g (lw_at lw_m15 199 rfl) rfl
theorem q3814 : (Jvm.Cond.privateMethod ({ cls := "WordTongueModel", name := "reachE", desc := "(IIII)Z" } : Jvm.MethodName)) ∈ lw_tbl := lw_at lw_m15 200 rfl
theorem q3815 : (Jvm.Cond.instanceMethod ({ cls := "WordTongueModel", name := "reachE", desc := "(IIII)Z" } : Jvm.MethodName)) ∈ lw_all := lw_g (lw_at lw_m15 201 rfl) rfl
theorem q3816 : (Jvm.Cond.code ({ cls := "WordTongueModel", name := "reachE", desc := "(IIII)Z" } : Jvm.MethodName) prog_20_method_42_code (8 : Nat) (Option.some Jvm.ClassFile.FieldType.boolean)) ∈ lw_all := lw_g (lw_at lw_m15 202 rfl) rfl
theorem q3817 : (Jvm.Cond.methodLink "WordTongueModel" (526 : Nat) ({ cls := "WordTongueModel", name := "tk", desc := "()I" } : Jvm.MethodName)) ∈ lw_all := lw_g (lw_at lw_m15 203 rfl) rfl
theorem q3818 : (Jvm.Cond.privateMethod ({ cls := "WordTongueModel", name := "tk", desc := "()I" } : Jvm.MethodName)) ∈ lw_tbl := lw_at lw_m15 204 rfl
theorem q3819 : (Jvm.Cond.instanceMethod ({ cls := "WordTongueModel", name := "tk", desc := "()I" } : Jvm.MethodName)) ∈ lw_all := lw_g (lw_at lw_m15 205 rfl) rfl
theorem q3820 : (Jvm.Cond.code ({ cls := "WordTongueModel", name := "tk", desc := "()I" } : Jvm.MethodName) prog_20_method_26_code (1 : Nat) (Option.some Jvm.ClassFile.FieldType.int)) ∈ lw_all := lw_g (lw_at lw_m15 206 rfl) rfl
theorem q3821 : (Jvm.Cond.methodLink "WordTongueModel" (530 : Nat) ({ cls := "WordTongueModel", name := "deeper", desc := "()Z" } : Jvm.MethodName)) ∈ lw_all := lw_g (lw_at lw_m15 207 rfl) rfl
theorem q3822 : (Jvm.Cond.privateMethod ({ cls := "WordTongueModel", name := "deeper", desc := "()Z" } : Jvm.MethodName)) ∈ lw_tbl := lw_at lw_m15 208 rfl
theorem q3823 : (Jvm.Cond.instanceMethod ({ cls := "WordTongueModel", name := "deeper", desc := "()Z" } : Jvm.MethodName)) ∈ lw_all := lw_g (lw_at lw_m15 209 rfl) rfl
theorem q3824 : (Jvm.Cond.code ({ cls := "WordTongueModel", name := "deeper", desc := "()Z" } : Jvm.MethodName) prog_20_method_29_code (1 : Nat) (Option.some Jvm.ClassFile.FieldType.boolean)) ∈ lw_all := lw_g (lw_at lw_m15 210 rfl) rfl
theorem q3825 : (Jvm.Cond.methodLink "WordTongueModel" (549 : Nat) ({ cls := "WordTongueModel", name := "take", desc := "(I)Z" } : Jvm.MethodName)) ∈ lw_all := lw_g (lw_at lw_m15 211 rfl) rfl
theorem q3826 : (Jvm.Cond.privateMethod ({ cls := "WordTongueModel", name := "take", desc := "(I)Z" } : Jvm.MethodName)) ∈ lw_tbl := lw_at lw_m15 212 rfl
theorem q3827 : (Jvm.Cond.instanceMethod ({ cls := "WordTongueModel", name := "take", desc := "(I)Z" } : Jvm.MethodName)) ∈ lw_all := lw_g (lw_at lw_m15 213 rfl) rfl
theorem q3828 : (Jvm.Cond.code ({ cls := "WordTongueModel", name := "take", desc := "(I)Z" } : Jvm.MethodName) prog_20_method_28_code (2 : Nat) (Option.some Jvm.ClassFile.FieldType.boolean)) ∈ lw_all := lw_g (lw_at lw_m15 214 rfl) rfl
theorem q3829 : (Jvm.Cond.methodLink "WordTongueModel" (542 : Nat) ({ cls := "WordTongueModel", name := "shut", desc := "(IIII)I" } : Jvm.MethodName)) ∈ lw_all := lw_g (lw_at lw_m15 215 rfl) rfl
theorem q3830 : (Jvm.Cond.privateMethod ({ cls := "WordTongueModel", name := "shut", desc := "(IIII)I" } : Jvm.MethodName)) ∈ lw_tbl := lw_at lw_m15 216 rfl
theorem q3831 : (Jvm.Cond.instanceMethod ({ cls := "WordTongueModel", name := "shut", desc := "(IIII)I" } : Jvm.MethodName)) ∈ lw_all := lw_g (lw_at lw_m15 217 rfl) rfl
theorem q3832 : (Jvm.Cond.code ({ cls := "WordTongueModel", name := "shut", desc := "(IIII)I" } : Jvm.MethodName) prog_20_method_23_code (7 : Nat) (Option.some Jvm.ClassFile.FieldType.int)) ∈ lw_all := lw_g (lw_at lw_m15 218 rfl) rfl
theorem q3833 : (Jvm.Cond.methodLink "WordTongueModel" (522 : Nat) ({ cls := "WordTongueModel", name := "node", desc := "(III)I" } : Jvm.MethodName)) ∈ lw_all := lw_g (lw_at lw_m15 219 rfl) rfl
theorem q3834 : (Jvm.Cond.privateMethod ({ cls := "WordTongueModel", name := "node", desc := "(III)I" } : Jvm.MethodName)) ∈ lw_tbl := lw_at lw_m15 220 rfl
theorem q3835 : (Jvm.Cond.instanceMethod ({ cls := "WordTongueModel", name := "node", desc := "(III)I" } : Jvm.MethodName)) ∈ lw_all := lw_g (lw_at lw_m15 221 rfl) rfl
theorem q3836 : (Jvm.Cond.code ({ cls := "WordTongueModel", name := "node", desc := "(III)I" } : Jvm.MethodName) prog_20_method_21_code (5 : Nat) (Option.some Jvm.ClassFile.FieldType.int)) ∈ lw_all := lw_g (lw_at lw_m15 222 rfl) rfl
theorem q3837 : (Jvm.Cond.methodLink "WordTongueModel" (589 : Nat) ({ cls := "WordTongueModel", name := "levelOf", desc := "(I)I" } : Jvm.MethodName)) ∈ lw_all := lw_g (lw_at lw_m15 223 rfl) rfl
theorem q3838 : (Jvm.Cond.static ({ cls := "WordTongueModel", name := "levelOf", desc := "(I)I" } : Jvm.MethodName)) ∈ lw_all := lw_g (lw_at lw_m15 224 rfl) rfl
theorem q3839 : (Jvm.Cond.code ({ cls := "WordTongueModel", name := "levelOf", desc := "(I)I" } : Jvm.MethodName) prog_20_method_41_code (1 : Nat) (Option.some Jvm.ClassFile.FieldType.int)) ∈ lw_all := lw_g (lw_at lw_m15 225 rfl) rfl
theorem q3840 : (Jvm.Cond.methodLink "WordTongueModel" (592 : Nat) ({ cls := "WordTongueModel", name := "binary", desc := "(III)V" } : Jvm.MethodName)) ∈ lw_all := lw_g (lw_at lw_m15 226 rfl) rfl
theorem q3841 : (Jvm.Cond.privateMethod ({ cls := "WordTongueModel", name := "binary", desc := "(III)V" } : Jvm.MethodName)) ∈ lw_tbl := lw_at lw_m15 227 rfl
theorem q3842 : (Jvm.Cond.instanceMethod ({ cls := "WordTongueModel", name := "binary", desc := "(III)V" } : Jvm.MethodName)) ∈ lw_all := lw_g (lw_at lw_m15 228 rfl) rfl
theorem q3843 : (Jvm.Cond.code ({ cls := "WordTongueModel", name := "binary", desc := "(III)V" } : Jvm.MethodName) prog_20_method_45_code (7 : Nat) (Option.none : Option Jvm.ClassFile.FieldType)) ∈ lw_all := lw_g (lw_at lw_m15 229 rfl) rfl
theorem q3844 : (Jvm.Cond.methodLink "WordTongueModel" (595 : Nat) ({ cls := "WordTongueModel", name := "calls", desc := "(III)Z" } : Jvm.MethodName)) ∈ lw_all := lw_g (lw_at lw_m15 230 rfl) rfl
theorem q3845 : (Jvm.Cond.privateMethod ({ cls := "WordTongueModel", name := "calls", desc := "(III)Z" } : Jvm.MethodName)) ∈ lw_tbl := lw_at lw_m15 231 rfl
theorem q3846 : (Jvm.Cond.instanceMethod ({ cls := "WordTongueModel", name := "calls", desc := "(III)Z" } : Jvm.MethodName)) ∈ lw_all := lw_g (lw_at lw_m15 232 rfl) rfl
theorem q3847 : (Jvm.Cond.code ({ cls := "WordTongueModel", name := "calls", desc := "(III)Z" } : Jvm.MethodName) prog_20_method_43_code (6 : Nat) (Option.some Jvm.ClassFile.FieldType.boolean)) ∈ lw_all := lw_g (lw_at lw_m15 233 rfl) rfl
theorem q3848 : (Jvm.Cond.methodLink "WordTongueModel" (598 : Nat) ({ cls := "WordTongueModel", name := "primary", desc := "(II)Z" } : Jvm.MethodName)) ∈ lw_all := lw_g (lw_at lw_m15 234 rfl) rfl
theorem q3849 : (Jvm.Cond.privateMethod ({ cls := "WordTongueModel", name := "primary", desc := "(II)Z" } : Jvm.MethodName)) ∈ lw_tbl := lw_at lw_m15 235 rfl
theorem q3850 : (Jvm.Cond.instanceMethod ({ cls := "WordTongueModel", name := "primary", desc := "(II)Z" } : Jvm.MethodName)) ∈ lw_all := lw_g (lw_at lw_m15 236 rfl) rfl
theorem q3851 : (Jvm.Cond.code ({ cls := "WordTongueModel", name := "primary", desc := "(II)Z" } : Jvm.MethodName) prog_20_method_44_code (4 : Nat) (Option.some Jvm.ClassFile.FieldType.boolean)) ∈ lw_all := lw_g (lw_at lw_m15 237 rfl) rfl
theorem q3852 : (Jvm.Cond.methodLink "WordTongueModel" (570 : Nat) ({ cls := "WordTongueModel", name := "leaf", desc := "(III)V" } : Jvm.MethodName)) ∈ lw_all := lw_g (lw_at lw_m15 238 rfl) rfl
theorem q3853 : (Jvm.Cond.privateMethod ({ cls := "WordTongueModel", name := "leaf", desc := "(III)V" } : Jvm.MethodName)) ∈ lw_tbl := lw_at lw_m15 239 rfl
theorem q3854 : (Jvm.Cond.instanceMethod ({ cls := "WordTongueModel", name := "leaf", desc := "(III)V" } : Jvm.MethodName)) ∈ lw_all := lw_g (lw_at lw_m16 0 rfl) rfl
theorem q3855 : (Jvm.Cond.code ({ cls := "WordTongueModel", name := "leaf", desc := "(III)V" } : Jvm.MethodName) prog_20_method_22_code (4 : Nat) (Option.none : Option Jvm.ClassFile.FieldType)) ∈ lw_all := lw_g (lw_at lw_m16 1 rfl) rfl
theorem q3856 : (Jvm.Cond.methodLink "WordTongueModel" (552 : Nat) ({ cls := "WordTongueModel", name := "openSection", desc := "()Z" } : Jvm.MethodName)) ∈ lw_all := lw_g (lw_at lw_m16 2 rfl) rfl
theorem q3857 : (Jvm.Cond.privateMethod ({ cls := "WordTongueModel", name := "openSection", desc := "()Z" } : Jvm.MethodName)) ∈ lw_tbl := lw_at lw_m16 3 rfl
theorem q3858 : (Jvm.Cond.instanceMethod ({ cls := "WordTongueModel", name := "openSection", desc := "()Z" } : Jvm.MethodName)) ∈ lw_all := lw_g (lw_at lw_m16 4 rfl) rfl
theorem q3859 : (Jvm.Cond.code ({ cls := "WordTongueModel", name := "openSection", desc := "()Z" } : Jvm.MethodName) prog_20_method_31_code (2 : Nat) (Option.some Jvm.ClassFile.FieldType.boolean)) ∈ lw_all := lw_g (lw_at lw_m16 5 rfl) rfl
theorem q3860 : (Jvm.Cond.methodLink "WordTongueModel" (555 : Nat) ({ cls := "WordTongueModel", name := "reachD", desc := "(IIII)Z" } : Jvm.MethodName)) ∈ lw_all := lw_g (lw_at lw_m16 6 rfl) rfl
theorem q3861 : (Jvm.Cond.privateMethod ({ cls := "WordTongueModel", name := "reachD", desc := "(IIII)Z" } : Jvm.MethodName)) ∈ lw_tbl := lw_at lw_m16 7 rfl
theorem q3862 : (Jvm.Cond.instanceMethod ({ cls := "WordTongueModel", name := "reachD", desc := "(IIII)Z" } : Jvm.MethodName)) ∈ lw_all := lw_g (lw_at lw_m16 8 rfl) rfl
theorem q3863 : (Jvm.Cond.code ({ cls := "WordTongueModel", name := "reachD", desc := "(IIII)Z" } : Jvm.MethodName) prog_20_method_35_code (9 : Nat) (Option.some Jvm.ClassFile.FieldType.boolean)) ∈ lw_all := lw_g (lw_at lw_m16 9 rfl) rfl
theorem q3864 : (Jvm.Cond.methodLink "WordTongueModel" (561 : Nat) ({ cls := "WordTongueModel", name := "isD", desc := "(I)Z" } : Jvm.MethodName)) ∈ lw_all := lw_g (lw_at lw_m16 10 rfl) rfl
theorem q3865 : (Jvm.Cond.static ({ cls := "WordTongueModel", name := "isD", desc := "(I)Z" } : Jvm.MethodName)) ∈ lw_all := lw_g (lw_at lw_m16 11 rfl) rfl
theorem q3866 : (Jvm.Cond.code ({ cls := "WordTongueModel", name := "isD", desc := "(I)Z" } : Jvm.MethodName) prog_20_method_30_code (1 : Nat) (Option.some Jvm.ClassFile.FieldType.boolean)) ∈ lw_all := lw_g (lw_at lw_m16 12 rfl) rfl
theorem q3867 : (Jvm.Cond.methodLink "WordTongueModel" (564 : Nat) ({ cls := "WordTongueModel", name := "shutSection", desc := "()Z" } : Jvm.MethodName)) ∈ lw_all := lw_g (lw_at lw_m16 13 rfl) rfl
theorem q3868 : (Jvm.Cond.privateMethod ({ cls := "WordTongueModel", name := "shutSection", desc := "()Z" } : Jvm.MethodName)) ∈ lw_tbl := lw_at lw_m16 14 rfl
theorem q3869 : (Jvm.Cond.instanceMethod ({ cls := "WordTongueModel", name := "shutSection", desc := "()Z" } : Jvm.MethodName)) ∈ lw_all := lw_g (lw_at lw_m16 15 rfl) rfl
theorem q3870 : (Jvm.Cond.code ({ cls := "WordTongueModel", name := "shutSection", desc := "()Z" } : Jvm.MethodName) prog_20_method_32_code (5 : Nat) (Option.some Jvm.ClassFile.FieldType.boolean)) ∈ lw_all := lw_g (lw_at lw_m16 16 rfl) rfl
theorem q3871 : (Jvm.Cond.methodLink "WordTongueModel" (567 : Nat) ({ cls := "WordTongueModel", name := "reachP", desc := "(I)Z" } : Jvm.MethodName)) ∈ lw_all := lw_g (lw_at lw_m16 17 rfl) rfl
theorem q3872 : (Jvm.Cond.privateMethod ({ cls := "WordTongueModel", name := "reachP", desc := "(I)Z" } : Jvm.MethodName)) ∈ lw_tbl := lw_at lw_m16 18 rfl
theorem q3873 : (Jvm.Cond.instanceMethod ({ cls := "WordTongueModel", name := "reachP", desc := "(I)Z" } : Jvm.MethodName)) ∈ lw_all := lw_g (lw_at lw_m16 19 rfl) rfl
theorem q3874 : (Jvm.Cond.code ({ cls := "WordTongueModel", name := "reachP", desc := "(I)Z" } : Jvm.MethodName) prog_20_method_36_code (6 : Nat) (Option.some Jvm.ClassFile.FieldType.boolean)) ∈ lw_all := lw_g (lw_at lw_m16 20 rfl) rfl
theorem q3875 : (Jvm.Cond.methodLink "WordTongueModel" (558 : Nat) ({ cls := "WordTongueModel", name := "reachC", desc := "(IIII)Z" } : Jvm.MethodName)) ∈ lw_all := lw_g (lw_at lw_m16 21 rfl) rfl
theorem q3876 : (Jvm.Cond.privateMethod ({ cls := "WordTongueModel", name := "reachC", desc := "(IIII)Z" } : Jvm.MethodName)) ∈ lw_tbl := lw_at lw_m16 22 rfl
theorem q3877 : (Jvm.Cond.instanceMethod ({ cls := "WordTongueModel", name := "reachC", desc := "(IIII)Z" } : Jvm.MethodName)) ∈ lw_all := lw_g (lw_at lw_m16 23 rfl) rfl
theorem q3878 : (Jvm.Cond.code ({ cls := "WordTongueModel", name := "reachC", desc := "(IIII)Z" } : Jvm.MethodName) prog_20_method_38_code (9 : Nat) (Option.some Jvm.ClassFile.FieldType.boolean)) ∈ lw_all := lw_g (lw_at lw_m16 24 rfl) rfl
theorem q3879 : (Jvm.Cond.methodLink "WordTongueModel" (573 : Nat) ({ cls := "WordTongueModel", name := "command", desc := "(III)Z" } : Jvm.MethodName)) ∈ lw_all := lw_g (lw_at lw_m16 25 rfl) rfl
theorem q3880 : (Jvm.Cond.privateMethod ({ cls := "WordTongueModel", name := "command", desc := "(III)Z" } : Jvm.MethodName)) ∈ lw_tbl := lw_at lw_m16 26 rfl
theorem q3881 : (Jvm.Cond.instanceMethod ({ cls := "WordTongueModel", name := "command", desc := "(III)Z" } : Jvm.MethodName)) ∈ lw_all := lw_g (lw_at lw_m16 27 rfl) rfl
theorem q3882 : (Jvm.Cond.code ({ cls := "WordTongueModel", name := "command", desc := "(III)Z" } : Jvm.MethodName) prog_20_method_40_code (5 : Nat) (Option.some Jvm.ClassFile.FieldType.boolean)) ∈ lw_all := lw_g (lw_at lw_m16 28 rfl) rfl
theorem q3883 : (Jvm.Cond.methodLink "WordTongueModel" (586 : Nat) ({ cls := "WordTongueModel", name := "beginsE", desc := "(I)Z" } : Jvm.MethodName)) ∈ lw_all := lw_g (lw_at lw_m16 29 rfl) rfl
theorem q3884 : (Jvm.Cond.static ({ cls := "WordTongueModel", name := "beginsE", desc := "(I)Z" } : Jvm.MethodName)) ∈ lw_all := lw_g (lw_at lw_m16 30 rfl) rfl
theorem q3885 : (Jvm.Cond.code ({ cls := "WordTongueModel", name := "beginsE", desc := "(I)Z" } : Jvm.MethodName) prog_20_method_37_code (1 : Nat) (Option.some Jvm.ClassFile.FieldType.boolean)) ∈ lw_all := lw_g (lw_at lw_m16 31 rfl) rfl
theorem q3886 : (Jvm.Cond.methodLink "WordTongueModel" (576 : Nat) ({ cls := "WordTongueModel", name := "labels", desc := "(I)V" } : Jvm.MethodName)) ∈ lw_all := lw_g (lw_at lw_m16 32 rfl) rfl
theorem q3887 : (Jvm.Cond.privateMethod ({ cls := "WordTongueModel", name := "labels", desc := "(I)V" } : Jvm.MethodName)) ∈ lw_tbl := lw_at lw_m16 33 rfl
theorem q3888 : (Jvm.Cond.instanceMethod ({ cls := "WordTongueModel", name := "labels", desc := "(I)V" } : Jvm.MethodName)) ∈ lw_all := lw_g (lw_at lw_m16 34 rfl) rfl
theorem q3889 : (Jvm.Cond.code ({ cls := "WordTongueModel", name := "labels", desc := "(I)V" } : Jvm.MethodName) prog_20_method_39_code (2 : Nat) (Option.none : Option Jvm.ClassFile.FieldType)) ∈ lw_all := lw_g (lw_at lw_m16 35 rfl) rfl
theorem q3890 : (Jvm.Cond.methodLink "WordTongueModel" (583 : Nat) ({ cls := "WordTongueModel", name := "tkNext", desc := "()I" } : Jvm.MethodName)) ∈ lw_all := lw_g (lw_at lw_m16 36 rfl) rfl
theorem q3891 : (Jvm.Cond.privateMethod ({ cls := "WordTongueModel", name := "tkNext", desc := "()I" } : Jvm.MethodName)) ∈ lw_tbl := lw_at lw_m16 37 rfl
theorem q3892 : (Jvm.Cond.instanceMethod ({ cls := "WordTongueModel", name := "tkNext", desc := "()I" } : Jvm.MethodName)) ∈ lw_all := lw_g (lw_at lw_m16 38 rfl) rfl
theorem q3893 : (Jvm.Cond.code ({ cls := "WordTongueModel", name := "tkNext", desc := "()I" } : Jvm.MethodName) prog_20_method_27_code (1 : Nat) (Option.some Jvm.ClassFile.FieldType.int)) ∈ lw_all := lw_g (lw_at lw_m16 39 rfl) rfl
theorem q3894 : (Jvm.Cond.methodLink "WordTongueModel" (580 : Nat) ({ cls := "WordTongueModel", name := "pairs", desc := "(I)V" } : Jvm.MethodName)) ∈ lw_all := lw_g (lw_at lw_m16 40 rfl) rfl
theorem q3895 : (Jvm.Cond.privateMethod ({ cls := "WordTongueModel", name := "pairs", desc := "(I)V" } : Jvm.MethodName)) ∈ lw_tbl := lw_at lw_m16 41 rfl
theorem q3896 : (Jvm.Cond.instanceMethod ({ cls := "WordTongueModel", name := "pairs", desc := "(I)V" } : Jvm.MethodName)) ∈ lw_all := lw_g (lw_at lw_m16 42 rfl) rfl
theorem q3897 : (Jvm.Cond.code ({ cls := "WordTongueModel", name := "pairs", desc := "(I)V" } : Jvm.MethodName) prog_20_method_24_code (5 : Nat) (Option.none : Option Jvm.ClassFile.FieldType)) ∈ lw_all := lw_g (lw_at lw_m16 43 rfl) rfl
theorem q3898 : (Jvm.Cond.methodLink "WordTongueModel" (605 : Nat) ({ cls := "WordTongueModel", name := "fault", desc := "(II)V" } : Jvm.MethodName)) ∈ lw_all := lw_g (lw_at lw_m16 44 rfl) rfl
theorem q3899 : (Jvm.Cond.privateMethod ({ cls := "WordTongueModel", name := "fault", desc := "(II)V" } : Jvm.MethodName)) ∈ lw_tbl := lw_at lw_m16 45 rfl
theorem q3900 : (Jvm.Cond.instanceMethod ({ cls := "WordTongueModel", name := "fault", desc := "(II)V" } : Jvm.MethodName)) ∈ lw_all := lw_g (lw_at lw_m16 46 rfl) rfl
theorem q3901 : (Jvm.Cond.code ({ cls := "WordTongueModel", name := "fault", desc := "(II)V" } : Jvm.MethodName) prog_20_method_46_code (3 : Nat) (Option.none : Option Jvm.ClassFile.FieldType)) ∈ lw_all := lw_g (lw_at lw_m16 47 rfl) rfl
theorem q3902 : (Jvm.Cond.methodLink "WordTongueModel" (923 : Nat) ({ cls := "WordTongueModel", name := "check", desc := "()V" } : Jvm.MethodName)) ∈ lw_all := lw_g (lw_at lw_m16 48 rfl) rfl
theorem q3903 : (Jvm.Cond.privateMethod ({ cls := "WordTongueModel", name := "check", desc := "()V" } : Jvm.MethodName)) ∈ lw_tbl := lw_at lw_m16 49 rfl
theorem q3904 : (Jvm.Cond.instanceMethod ({ cls := "WordTongueModel", name := "check", desc := "()V" } : Jvm.MethodName)) ∈ lw_all := lw_g (lw_at lw_m16 50 rfl) rfl
theorem q3905 : (Jvm.Cond.code ({ cls := "WordTongueModel", name := "check", desc := "()V" } : Jvm.MethodName) prog_20_method_70_code (4 : Nat) (Option.none : Option Jvm.ClassFile.FieldType)) ∈ lw_all := lw_g (lw_at lw_m16 51 rfl) rfl
theorem q3906 : (Jvm.Cond.methodLink "WordTongueModel" (698 : Nat) ({ cls := "WordTongueModel", name := "library", desc := "()V" } : Jvm.MethodName)) ∈ lw_all := lw_g (lw_at lw_m16 52 rfl) rfl
theorem q3907 : (Jvm.Cond.privateMethod ({ cls := "WordTongueModel", name := "library", desc := "()V" } : Jvm.MethodName)) ∈ lw_tbl := lw_at lw_m16 53 rfl
theorem q3908 : (Jvm.Cond.instanceMethod ({ cls := "WordTongueModel", name := "library", desc := "()V" } : Jvm.MethodName)) ∈ lw_all := lw_g (lw_at lw_m16 54 rfl) rfl
theorem q3909 : (Jvm.Cond.code ({ cls := "WordTongueModel", name := "library", desc := "()V" } : Jvm.MethodName) prog_20_method_68_code (1 : Nat) (Option.none : Option Jvm.ClassFile.FieldType)) ∈ lw_all := lw_g (lw_at lw_m16 55 rfl) rfl
theorem q3910 : (Jvm.Cond.constantLong "WordTongueModel" (653 : Nat) (96010929194318 : Int64)) ∈ lw_all := lw_g (lw_at lw_m16 56 rfl) rfl
theorem q3911 : (Jvm.Cond.methodLink "WordTongueModel" (655 : Nat) ({ cls := "WordTongueModel", name := "lib", desc := "(JJI)V" } : Jvm.MethodName)) ∈ lw_all := lw_g (lw_at lw_m16 57 rfl) rfl
theorem q3912 : (Jvm.Cond.privateMethod ({ cls := "WordTongueModel", name := "lib", desc := "(JJI)V" } : Jvm.MethodName)) ∈ lw_tbl := lw_at lw_m16 58 rfl
theorem q3913 : (Jvm.Cond.instanceMethod ({ cls := "WordTongueModel", name := "lib", desc := "(JJI)V" } : Jvm.MethodName)) ∈ lw_all := lw_g (lw_at lw_m16 59 rfl) rfl
theorem q3914 : (Jvm.Cond.code ({ cls := "WordTongueModel", name := "lib", desc := "(JJI)V" } : Jvm.MethodName) prog_20_method_69_code (8 : Nat) (Option.none : Option Jvm.ClassFile.FieldType)) ∈ lw_all := lw_g (lw_at lw_m16 60 rfl) rfl
theorem q3915 : (Jvm.Cond.constant "WordTongueModel" (697 : Nat) (2000000 : Int32)) ∈ lw_all := lw_g (lw_at lw_m16 61 rfl) rfl
theorem q3916 : (Jvm.Cond.methodLink "WordTongueModel" (609 : Nat) ({ cls := "WordTongueModel", name := "entry", desc := "(IIIII)I" } : Jvm.MethodName)) ∈ lw_all := lw_g (lw_at lw_m16 62 rfl) rfl
theorem q3917 : (Jvm.Cond.privateMethod ({ cls := "WordTongueModel", name := "entry", desc := "(IIIII)I" } : Jvm.MethodName)) ∈ lw_tbl := lw_at lw_m16 63 rfl
theorem q3918 : (Jvm.Cond.instanceMethod ({ cls := "WordTongueModel", name := "entry", desc := "(IIIII)I" } : Jvm.MethodName)) ∈ lw_all := lw_g (lw_at lw_m16 64 rfl) rfl
theorem q3919 : (Jvm.Cond.code ({ cls := "WordTongueModel", name := "entry", desc := "(IIIII)I" } : Jvm.MethodName) prog_20_method_49_code (6 : Nat) (Option.some Jvm.ClassFile.FieldType.int)) ∈ lw_all := lw_g (lw_at lw_m16 65 rfl) rfl
theorem q3920 : (Jvm.Cond.constantLong "WordTongueModel" (659 : Nat) (96010929194323 : Int64)) ∈ lw_all := lw_g (lw_at lw_m16 66 rfl) rfl
theorem q3921 : (Jvm.Cond.constantLong "WordTongueModel" (661 : Nat) (1465008968 : Int64)) ∈ lw_all := lw_g (lw_at lw_m16 67 rfl) rfl
theorem q3922 : (Jvm.Cond.constantLong "WordTongueModel" (663 : Nat) (22031289427775045 : Int64)) ∈ lw_all := lw_g (lw_at lw_m16 68 rfl) rfl
theorem q3923 : (Jvm.Cond.constantLong "WordTongueModel" (665 : Nat) (1380205384 : Int64)) ∈ lw_all := lw_g (lw_at lw_m16 69 rfl) rfl
theorem q3924 : (Jvm.Cond.constantLong "WordTongueModel" (667 : Nat) (1398034256 : Int64)) ∈ lw_all := lw_g (lw_at lw_m16 70 rfl) rfl
theorem q3925 : (Jvm.Cond.constantLong "WordTongueModel" (669 : Nat) (4276819 : Int64)) ∈ lw_all := lw_g (lw_at lw_m16 71 rfl) rfl
theorem q3926 : (Jvm.Cond.constantLong "WordTongueModel" (671 : Nat) (93794876015432 : Int64)) ∈ lw_all := lw_g (lw_at lw_m16 72 rfl) rfl
theorem q3927 : (Jvm.Cond.constantLong "WordTongueModel" (673 : Nat) (6000285938907105614 : Int64)) ∈ lw_all := lw_g (lw_at lw_m16 73 rfl) rfl
theorem q3928 : (Jvm.Cond.constantLong "WordTongueModel" (675 : Nat) (5264724 : Int64)) ∈ lw_all := lw_g (lw_at lw_m16 74 rfl) rfl
theorem q3929 : (Jvm.Cond.constantLong "WordTongueModel" (677 : Nat) (6000285938907107157 : Int64)) ∈ lw_all := lw_g (lw_at lw_m16 75 rfl) rfl
theorem q3930 : (Jvm.Cond.constantLong "WordTongueModel" (679 : Nat) (1414550868 : Int64)) ∈ lw_all := lw_g (lw_at lw_m16 76 rfl) rfl
theorem q3931 : (Jvm.Cond.constantLong "WordTongueModel" (681 : Nat) (90457770643012 : Int64)) ∈ lw_all := lw_g (lw_at lw_m16 77 rfl) rfl
theorem q3932 : (Jvm.Cond.constantLong "WordTongueModel" (683 : Nat) (78363093255491 : Int64)) ∈ lw_all := lw_g (lw_at lw_m16 78 rfl) rfl
theorem q3933 : (Jvm.Cond.constantLong "WordTongueModel" (685 : Nat) (19793705839248707 : Int64)) ∈ lw_all := lw_g (lw_at lw_m16 79 rfl) rfl
theorem q3934 : (Jvm.Cond.constantLong "WordTongueModel" (687 : Nat) (18384196524721475 : Int64)) ∈ lw_all := lw_g (lw_at lw_m16 80 rfl) rfl
theorem q3935 : (Jvm.Cond.constantLong "WordTongueModel" (689 : Nat) (85028747102550 : Int64)) ∈ lw_all := lw_g (lw_at lw_m16 81 rfl) rfl
theorem q3936 : (Jvm.Cond.constantLong "WordTongueModel" (691 : Nat) (96010929194308 : Int64)) ∈ lw_all := lw_g (lw_at lw_m16 82 rfl) rfl
theorem q3937 : (Jvm.Cond.constantLong "WordTongueModel" (693 : Nat) (6292172255678448984 : Int64)) ∈ lw_all := lw_g (lw_at lw_m16 83 rfl) rfl
theorem q3938 : (Jvm.Cond.constantLong "WordTongueModel" (695 : Nat) (353349223502 : Int64)) ∈ lw_all := lw_g (lw_at lw_m16 84 rfl) rfl
theorem q3939 : (Jvm.Cond.constantLong "WordTongueModel" (701 : Nat) (357895852628 : Int64)) ∈ lw_all := lw_g (lw_at lw_m16 85 rfl) rfl
theorem q3940 : (Jvm.Cond.methodLink "WordTongueModel" (703 : Nat) ({ cls := "WordTongueModel", name := "children", desc := "(II)V" } : Jvm.MethodName)) ∈ lw_all := lw_g (lw_at lw_m16 86 rfl) rfl
theorem q3941 : (Jvm.Cond.privateMethod ({ cls := "WordTongueModel", name := "children", desc := "(II)V" } : Jvm.MethodName)) ∈ lw_tbl := lw_at lw_m16 87 rfl
theorem q3942 : (Jvm.Cond.instanceMethod ({ cls := "WordTongueModel", name := "children", desc := "(II)V" } : Jvm.MethodName)) ∈ lw_all := lw_g (lw_at lw_m16 88 rfl) rfl
theorem q3943 : (Jvm.Cond.code ({ cls := "WordTongueModel", name := "children", desc := "(II)V" } : Jvm.MethodName) prog_20_method_66_code (5 : Nat) (Option.none : Option Jvm.ClassFile.FieldType)) ∈ lw_all := lw_g (lw_at lw_m16 89 rfl) rfl
theorem q3944 : (Jvm.Cond.methodLink "WordTongueModel" (647 : Nat) ({ cls := "WordTongueModel", name := "task", desc := "(III)V" } : Jvm.MethodName)) ∈ lw_all := lw_g (lw_at lw_m16 90 rfl) rfl
theorem q3945 : (Jvm.Cond.privateMethod ({ cls := "WordTongueModel", name := "task", desc := "(III)V" } : Jvm.MethodName)) ∈ lw_tbl := lw_at lw_m16 91 rfl
theorem q3946 : (Jvm.Cond.instanceMethod ({ cls := "WordTongueModel", name := "task", desc := "(III)V" } : Jvm.MethodName)) ∈ lw_all := lw_g (lw_at lw_m16 92 rfl) rfl
theorem q3947 : (Jvm.Cond.code ({ cls := "WordTongueModel", name := "task", desc := "(III)V" } : Jvm.MethodName) prog_20_method_62_code (4 : Nat) (Option.none : Option Jvm.ClassFile.FieldType)) ∈ lw_all := lw_g (lw_at lw_m16 93 rfl) rfl
theorem q3948 : (Jvm.Cond.methodLink "WordTongueModel" (650 : Nat) ({ cls := "WordTongueModel", name := "turn", desc := "(I)V" } : Jvm.MethodName)) ∈ lw_all := lw_g (lw_at lw_m16 94 rfl) rfl
theorem q3949 : (Jvm.Cond.privateMethod ({ cls := "WordTongueModel", name := "turn", desc := "(I)V" } : Jvm.MethodName)) ∈ lw_tbl := lw_at lw_m16 95 rfl
theorem q3950 : (Jvm.Cond.instanceMethod ({ cls := "WordTongueModel", name := "turn", desc := "(I)V" } : Jvm.MethodName)) ∈ lw_all := lw_g (lw_at lw_m16 96 rfl) rfl
theorem q3951 : (Jvm.Cond.code ({ cls := "WordTongueModel", name := "turn", desc := "(I)V" } : Jvm.MethodName) prog_20_method_67_code (7 : Nat) (Option.none : Option Jvm.ClassFile.FieldType)) ∈ lw_all := lw_g (lw_at lw_m16 97 rfl) rfl
theorem q3952 : (Jvm.Cond.methodLink "WordTongueModel" (706 : Nat) ({ cls := "WordTongueModel", name := "go", desc := "(III)V" } : Jvm.MethodName)) ∈ lw_all := lw_g (lw_at lw_m16 98 rfl) rfl
theorem q3953 : (Jvm.Cond.privateMethod ({ cls := "WordTongueModel", name := "go", desc := "(III)V" } : Jvm.MethodName)) ∈ lw_tbl := lw_at lw_m16 99 rfl
theorem q3954 : (Jvm.Cond.instanceMethod ({ cls := "WordTongueModel", name := "go", desc := "(III)V" } : Jvm.MethodName)) ∈ lw_all := lw_g (lw_at lw_m16 100 rfl) rfl
theorem q3955 : (Jvm.Cond.code ({ cls := "WordTongueModel", name := "go", desc := "(III)V" } : Jvm.MethodName) prog_20_method_71_code (4 : Nat) (Option.none : Option Jvm.ClassFile.FieldType)) ∈ lw_all := lw_g (lw_at lw_m16 101 rfl) rfl
theorem q3956 : (Jvm.Cond.methodLink "WordTongueModel" (709 : Nat) ({ cls := "WordTongueModel", name := "declaration", desc := "(I)V" } : Jvm.MethodName)) ∈ lw_all := lw_g (lw_at lw_m16 102 rfl) rfl
theorem q3957 : (Jvm.Cond.privateMethod ({ cls := "WordTongueModel", name := "declaration", desc := "(I)V" } : Jvm.MethodName)) ∈ lw_tbl := lw_at lw_m16 103 rfl
theorem q3958 : (Jvm.Cond.instanceMethod ({ cls := "WordTongueModel", name := "declaration", desc := "(I)V" } : Jvm.MethodName)) ∈ lw_all := lw_g (lw_at lw_m16 104 rfl) rfl
theorem q3959 : (Jvm.Cond.code ({ cls := "WordTongueModel", name := "declaration", desc := "(I)V" } : Jvm.MethodName) prog_20_method_73_code (5 : Nat) (Option.none : Option Jvm.ClassFile.FieldType)) ∈ lw_all := lw_g (lw_at lw_m16 105 rfl) rfl
theorem q3960 : (Jvm.Cond.methodLink "WordTongueModel" (746 : Nat) ({ cls := "WordTongueModel", name := "letRoutines", desc := "(I)V" } : Jvm.MethodName)) ∈ lw_all := lw_g (lw_at lw_m16 106 rfl) rfl
theorem q3961 : (Jvm.Cond.privateMethod ({ cls := "WordTongueModel", name := "letRoutines", desc := "(I)V" } : Jvm.MethodName)) ∈ lw_tbl := lw_at lw_m16 107 rfl
theorem q3962 : (Jvm.Cond.instanceMethod ({ cls := "WordTongueModel", name := "letRoutines", desc := "(I)V" } : Jvm.MethodName)) ∈ lw_all := lw_g (lw_at lw_m16 108 rfl) rfl
theorem q3963 : (Jvm.Cond.code ({ cls := "WordTongueModel", name := "letRoutines", desc := "(I)V" } : Jvm.MethodName) prog_20_method_74_code (6 : Nat) (Option.none : Option Jvm.ClassFile.FieldType)) ∈ lw_all := lw_g (lw_at lw_m16 109 rfl) rfl
theorem q3964 : (Jvm.Cond.methodLink "WordTongueModel" (749 : Nat) ({ cls := "WordTongueModel", name := "nameToken", desc := "(I)I" } : Jvm.MethodName)) ∈ lw_all := lw_g (lw_at lw_m16 110 rfl) rfl
theorem q3965 : (Jvm.Cond.privateMethod ({ cls := "WordTongueModel", name := "nameToken", desc := "(I)I" } : Jvm.MethodName)) ∈ lw_tbl := lw_at lw_m16 111 rfl
theorem q3966 : (Jvm.Cond.instanceMethod ({ cls := "WordTongueModel", name := "nameToken", desc := "(I)I" } : Jvm.MethodName)) ∈ lw_all := lw_g (lw_at lw_m16 112 rfl) rfl
theorem q3967 : (Jvm.Cond.code ({ cls := "WordTongueModel", name := "nameToken", desc := "(I)I" } : Jvm.MethodName) prog_20_method_72_code (2 : Nat) (Option.some Jvm.ClassFile.FieldType.int)) ∈ lw_all := lw_g (lw_at lw_m16 113 rfl) rfl
theorem q3968 : (Jvm.Cond.methodLink "WordTongueModel" (619 : Nat) ({ cls := "WordTongueModel", name := "means", desc := "(I)I" } : Jvm.MethodName)) ∈ lw_all := lw_g (lw_at lw_m16 114 rfl) rfl
theorem q3969 : (Jvm.Cond.privateMethod ({ cls := "WordTongueModel", name := "means", desc := "(I)I" } : Jvm.MethodName)) ∈ lw_tbl := lw_at lw_m16 115 rfl
theorem q3970 : (Jvm.Cond.instanceMethod ({ cls := "WordTongueModel", name := "means", desc := "(I)I" } : Jvm.MethodName)) ∈ lw_all := lw_g (lw_at lw_m16 116 rfl) rfl
theorem q3971 : (Jvm.Cond.code ({ cls := "WordTongueModel", name := "means", desc := "(I)I" } : Jvm.MethodName) prog_20_method_48_code (3 : Nat) (Option.some Jvm.ClassFile.FieldType.int)) ∈ lw_all := lw_g (lw_at lw_m16 117 rfl) rfl
theorem q3972 : (Jvm.Cond.methodLink "WordTongueModel" (613 : Nat) ({ cls := "WordTongueModel", name := "place", desc := "(I)I" } : Jvm.MethodName)) ∈ lw_all := lw_g (lw_at lw_m16 118 rfl) rfl
theorem q3973 : (Jvm.Cond.privateMethod ({ cls := "WordTongueModel", name := "place", desc := "(I)I" } : Jvm.MethodName)) ∈ lw_tbl := lw_at lw_m16 119 rfl
theorem q3974 : (Jvm.Cond.instanceMethod ({ cls := "WordTongueModel", name := "place", desc := "(I)I" } : Jvm.MethodName)) ∈ lw_all := lw_g (lw_at lw_m16 120 rfl) rfl
theorem q3975 : (Jvm.Cond.code ({ cls := "WordTongueModel", name := "place", desc := "(I)I" } : Jvm.MethodName) prog_20_method_47_code (2 : Nat) (Option.some Jvm.ClassFile.FieldType.int)) ∈ lw_all := lw_g (lw_at lw_m16 121 rfl) rfl
theorem q3976 : (Jvm.Cond.methodLink "WordTongueModel" (752 : Nat) ({ cls := "WordTongueModel", name := "declare", desc := "(IIIIII)I" } : Jvm.MethodName)) ∈ lw_all := lw_g (lw_at lw_m16 122 rfl) rfl
theorem q3977 : (Jvm.Cond.privateMethod ({ cls := "WordTongueModel", name := "declare", desc := "(IIIIII)I" } : Jvm.MethodName)) ∈ lw_tbl := lw_at lw_m16 123 rfl
theorem q3978 : (Jvm.Cond.instanceMethod ({ cls := "WordTongueModel", name := "declare", desc := "(IIIIII)I" } : Jvm.MethodName)) ∈ lw_all := lw_g (lw_at lw_m16 124 rfl) rfl
theorem q3979 : (Jvm.Cond.code ({ cls := "WordTongueModel", name := "declare", desc := "(IIIIII)I" } : Jvm.MethodName) prog_20_method_50_code (8 : Nat) (Option.some Jvm.ClassFile.FieldType.int)) ∈ lw_all := lw_g (lw_at lw_m16 125 rfl) rfl
theorem q3980 : (Jvm.Cond.methodLink "WordTongueModel" (602 : Nat) ({ cls := "WordTongueModel", name := "tokenOfTwice", desc := "(II)I" } : Jvm.MethodName)) ∈ lw_all := lw_g (lw_at lw_m16 126 rfl) rfl
theorem q3981 : (Jvm.Cond.privateMethod ({ cls := "WordTongueModel", name := "tokenOfTwice", desc := "(II)I" } : Jvm.MethodName)) ∈ lw_tbl := lw_at lw_m16 127 rfl
theorem q3982 : (Jvm.Cond.instanceMethod ({ cls := "WordTongueModel", name := "tokenOfTwice", desc := "(II)I" } : Jvm.MethodName)) ∈ lw_all := lw_g (lw_at lw_m16 128 rfl) rfl
theorem q3983 : (Jvm.Cond.code ({ cls := "WordTongueModel", name := "tokenOfTwice", desc := "(II)I" } : Jvm.MethodName) prog_20_method_51_code (3 : Nat) (Option.some Jvm.ClassFile.FieldType.int)) ∈ lw_all := lw_g (lw_at lw_m16 129 rfl) rfl
theorem q3984 : (Jvm.Cond.methodLink "WordTongueModel" (756 : Nat) ({ cls := "WordTongueModel", name := "constant", desc := "(I)V" } : Jvm.MethodName)) ∈ lw_all := lw_g (lw_at lw_m16 130 rfl) rfl
theorem q3985 : (Jvm.Cond.privateMethod ({ cls := "WordTongueModel", name := "constant", desc := "(I)V" } : Jvm.MethodName)) ∈ lw_tbl := lw_at lw_m16 131 rfl
theorem q3986 : (Jvm.Cond.instanceMethod ({ cls := "WordTongueModel", name := "constant", desc := "(I)V" } : Jvm.MethodName)) ∈ lw_all := lw_g (lw_at lw_m16 132 rfl) rfl
theorem q3987 : (Jvm.Cond.code ({ cls := "WordTongueModel", name := "constant", desc := "(I)V" } : Jvm.MethodName) prog_20_method_60_code (10 : Nat) (Option.none : Option Jvm.ClassFile.FieldType)) ∈ lw_all := lw_g (lw_at lw_m16 133 rfl) rfl
theorem q3988 : (Jvm.Cond.methodLink "WordTongueModel" (632 : Nat) ({ cls := "WordTongueModel", name := "isK", desc := "(I)Z" } : Jvm.MethodName)) ∈ lw_all := lw_g (lw_at lw_m16 134 rfl) rfl
theorem q3989 : (Jvm.Cond.privateMethod ({ cls := "WordTongueModel", name := "isK", desc := "(I)Z" } : Jvm.MethodName)) ∈ lw_tbl := lw_at lw_m16 135 rfl
theorem q3990 : (Jvm.Cond.instanceMethod ({ cls := "WordTongueModel", name := "isK", desc := "(I)Z" } : Jvm.MethodName)) ∈ lw_all := lw_g (lw_at lw_m16 136 rfl) rfl
theorem q3991 : (Jvm.Cond.code ({ cls := "WordTongueModel", name := "isK", desc := "(I)Z" } : Jvm.MethodName) prog_20_method_52_code (8 : Nat) (Option.some Jvm.ClassFile.FieldType.boolean)) ∈ lw_all := lw_g (lw_at lw_m16 137 rfl) rfl
theorem q3992 : (Jvm.Cond.methodLink "WordTongueModel" (616 : Nat) ({ cls := "WordTongueModel", name := "isKName", desc := "(I)Z" } : Jvm.MethodName)) ∈ lw_all := lw_g (lw_at lw_m16 138 rfl) rfl
theorem q3993 : (Jvm.Cond.privateMethod ({ cls := "WordTongueModel", name := "isKName", desc := "(I)Z" } : Jvm.MethodName)) ∈ lw_tbl := lw_at lw_m16 139 rfl
theorem q3994 : (Jvm.Cond.instanceMethod ({ cls := "WordTongueModel", name := "isKName", desc := "(I)Z" } : Jvm.MethodName)) ∈ lw_all := lw_g (lw_at lw_m16 140 rfl) rfl
theorem q3995 : (Jvm.Cond.code ({ cls := "WordTongueModel", name := "isKName", desc := "(I)Z" } : Jvm.MethodName) prog_20_method_53_code (3 : Nat) (Option.some Jvm.ClassFile.FieldType.boolean)) ∈ lw_all := lw_g (lw_at lw_m16 141 rfl) rfl
theorem q3996 : (Jvm.Cond.methodLink "WordTongueModel" (635 : Nat) ({ cls := "WordTongueModel", name := "later", desc := "(II)I" } : Jvm.MethodName)) ∈ lw_all := lw_g (lw_at lw_m16 142 rfl) rfl
theorem q3997 : (Jvm.Cond.privateMethod ({ cls := "WordTongueModel", name := "later", desc := "(II)I" } : Jvm.MethodName)) ∈ lw_tbl := lw_at lw_m16 143 rfl
theorem q3998 : (Jvm.Cond.instanceMethod ({ cls := "WordTongueModel", name := "later", desc := "(II)I" } : Jvm.MethodName)) ∈ lw_all := lw_g (lw_at lw_m16 144 rfl) rfl
theorem q3999 : (Jvm.Cond.code ({ cls := "WordTongueModel", name := "later", desc := "(II)I" } : Jvm.MethodName) prog_20_method_61_code (3 : Nat) (Option.some Jvm.ClassFile.FieldType.int)) ∈ lw_all := lw_g (lw_at lw_m16 145 rfl) rfl
theorem q4000 : (Jvm.Cond.methodLink "WordTongueModel" (638 : Nat) ({ cls := "WordTongueModel", name := "signed", desc := "(II)I" } : Jvm.MethodName)) ∈ lw_all := lw_g (lw_at lw_m16 146 rfl) rfl
theorem q4001 : (Jvm.Cond.static ({ cls := "WordTongueModel", name := "signed", desc := "(II)I" } : Jvm.MethodName)) ∈ lw_all := lw_g (lw_at lw_m16 147 rfl) rfl
theorem q4002 : (Jvm.Cond.code ({ cls := "WordTongueModel", name := "signed", desc := "(II)I" } : Jvm.MethodName) prog_20_method_59_code (2 : Nat) (Option.some Jvm.ClassFile.FieldType.int)) ∈ lw_all := lw_g (lw_at lw_m16 148 rfl) rfl
theorem q4003 : (Jvm.Cond.methodLink "WordTongueModel" (641 : Nat) ({ cls := "WordTongueModel", name := "related", desc := "(III)Z" } : Jvm.MethodName)) ∈ lw_all := lw_g (lw_at lw_m16 149 rfl) rfl
theorem q4004 : (Jvm.Cond.static ({ cls := "WordTongueModel", name := "related", desc := "(III)Z" } : Jvm.MethodName)) ∈ lw_all := lw_g (lw_at lw_m16 150 rfl) rfl
theorem q4005 : (Jvm.Cond.code ({ cls := "WordTongueModel", name := "related", desc := "(III)Z" } : Jvm.MethodName) prog_20_method_58_code (3 : Nat) (Option.some Jvm.ClassFile.FieldType.boolean)) ∈ lw_all := lw_g (lw_at lw_m16 151 rfl) rfl
theorem q4006 : (Jvm.Cond.methodLink "WordTongueModel" (644 : Nat) ({ cls := "WordTongueModel", name := "worked", desc := "(III)I" } : Jvm.MethodName)) ∈ lw_all := lw_g (lw_at lw_m16 152 rfl) rfl
theorem q4007 : (Jvm.Cond.static ({ cls := "WordTongueModel", name := "worked", desc := "(III)I" } : Jvm.MethodName)) ∈ lw_all := lw_g (lw_at lw_m16 153 rfl) rfl
theorem q4008 : (Jvm.Cond.code ({ cls := "WordTongueModel", name := "worked", desc := "(III)I" } : Jvm.MethodName) prog_20_method_57_code (3 : Nat) (Option.some Jvm.ClassFile.FieldType.int)) ∈ lw_all := lw_g (lw_at lw_m16 154 rfl) rfl
theorem q4009 : (Jvm.Cond.methodLink "WordTongueModel" (622 : Nat) ({ cls := "WordTongueModel", name := "quotient", desc := "(II)I" } : Jvm.MethodName)) ∈ lw_all := lw_g (lw_at lw_m16 155 rfl) rfl
theorem q4010 : (Jvm.Cond.static ({ cls := "WordTongueModel", name := "quotient", desc := "(II)I" } : Jvm.MethodName)) ∈ lw_all := lw_g (lw_at lw_m16 156 rfl) rfl
theorem q4011 : (Jvm.Cond.code ({ cls := "WordTongueModel", name := "quotient", desc := "(II)I" } : Jvm.MethodName) prog_20_method_55_code (2 : Nat) (Option.some Jvm.ClassFile.FieldType.int)) ∈ lw_all := lw_g (lw_at lw_m16 157 rfl) rfl
theorem q4012 : (Jvm.Cond.methodLink "WordTongueModel" (625 : Nat) ({ cls := "WordTongueModel", name := "remainder", desc := "(II)I" } : Jvm.MethodName)) ∈ lw_all := lw_g (lw_at lw_m16 158 rfl) rfl
theorem q4013 : (Jvm.Cond.static ({ cls := "WordTongueModel", name := "remainder", desc := "(II)I" } : Jvm.MethodName)) ∈ lw_all := lw_g (lw_at lw_m16 159 rfl) rfl
theorem q4014 : (Jvm.Cond.code ({ cls := "WordTongueModel", name := "remainder", desc := "(II)I" } : Jvm.MethodName) prog_20_method_56_code (2 : Nat) (Option.some Jvm.ClassFile.FieldType.int)) ∈ lw_all := lw_g (lw_at lw_m16 160 rfl) rfl
theorem q4015 : (Jvm.Cond.methodLink "WordTongueModel" (628 : Nat) ({ cls := "WordTongueModel", name := "shifted", desc := "(IIZ)I" } : Jvm.MethodName)) ∈ lw_all := lw_g (lw_at lw_m16 161 rfl) rfl
theorem q4016 : (Jvm.Cond.static ({ cls := "WordTongueModel", name := "shifted", desc := "(IIZ)I" } : Jvm.MethodName)) ∈ lw_all := lw_g (lw_at lw_m16 162 rfl) rfl
theorem q4017 : (Jvm.Cond.code ({ cls := "WordTongueModel", name := "shifted", desc := "(IIZ)I" } : Jvm.MethodName) prog_20_method_54_code (3 : Nat) (Option.some Jvm.ClassFile.FieldType.int)) ∈ lw_all := lw_g (lw_at lw_m16 163 rfl) rfl
theorem q4018 : (Jvm.Cond.methodLink "WordTongueModel" (759 : Nat) ({ cls := "WordTongueModel", name := "init", desc := "(II)V" } : Jvm.MethodName)) ∈ lw_all := lw_g (lw_at lw_m16 164 rfl) rfl
theorem q4019 : (Jvm.Cond.privateMethod ({ cls := "WordTongueModel", name := "init", desc := "(II)V" } : Jvm.MethodName)) ∈ lw_tbl := lw_at lw_m16 165 rfl
theorem q4020 : (Jvm.Cond.instanceMethod ({ cls := "WordTongueModel", name := "init", desc := "(II)V" } : Jvm.MethodName)) ∈ lw_all := lw_g (lw_at lw_m16 166 rfl) rfl
theorem q4021 : (Jvm.Cond.code ({ cls := "WordTongueModel", name := "init", desc := "(II)V" } : Jvm.MethodName) prog_20_method_65_code (3 : Nat) (Option.none : Option Jvm.ClassFile.FieldType)) ∈ lw_all := lw_g (lw_at lw_m16 167 rfl) rfl
theorem q4022 : (Jvm.Cond.methodLink "WordTongueModel" (712 : Nat) ({ cls := "WordTongueModel", name := "commandOf", desc := "(I)V" } : Jvm.MethodName)) ∈ lw_all := lw_g (lw_at lw_m16 168 rfl) rfl
theorem q4023 : (Jvm.Cond.privateMethod ({ cls := "WordTongueModel", name := "commandOf", desc := "(I)V" } : Jvm.MethodName)) ∈ lw_tbl := lw_at lw_m16 169 rfl
theorem q4024 : (Jvm.Cond.instanceMethod ({ cls := "WordTongueModel", name := "commandOf", desc := "(I)V" } : Jvm.MethodName)) ∈ lw_all := lw_g (lw_at lw_m16 170 rfl) rfl
theorem q4025 : (Jvm.Cond.code ({ cls := "WordTongueModel", name := "commandOf", desc := "(I)V" } : Jvm.MethodName) prog_20_method_86_code (7 : Nat) (Option.none : Option Jvm.ClassFile.FieldType)) ∈ lw_all := lw_g (lw_at lw_m16 171 rfl) rfl
theorem q4026 : (Jvm.Cond.methodLink "WordTongueModel" (770 : Nat) ({ cls := "WordTongueModel", name := "beginBlock", desc := "()V" } : Jvm.MethodName)) ∈ lw_all := lw_g (lw_at lw_m16 172 rfl) rfl
theorem q4027 : (Jvm.Cond.privateMethod ({ cls := "WordTongueModel", name := "beginBlock", desc := "()V" } : Jvm.MethodName)) ∈ lw_tbl := lw_at lw_m16 173 rfl
theorem q4028 : (Jvm.Cond.instanceMethod ({ cls := "WordTongueModel", name := "beginBlock", desc := "()V" } : Jvm.MethodName)) ∈ lw_all := lw_g (lw_at lw_m16 174 rfl) rfl
theorem q4029 : (Jvm.Cond.code ({ cls := "WordTongueModel", name := "beginBlock", desc := "()V" } : Jvm.MethodName) prog_20_method_80_code (1 : Nat) (Option.none : Option Jvm.ClassFile.FieldType)) ∈ lw_all := lw_g (lw_at lw_m16 175 rfl) rfl
theorem q4030 : (Jvm.Cond.methodLink "WordTongueModel" (763 : Nat) ({ cls := "WordTongueModel", name := "put", desc := "(I)V" } : Jvm.MethodName)) ∈ lw_all := lw_g (lw_at lw_m16 176 rfl) rfl
theorem q4031 : (Jvm.Cond.privateMethod ({ cls := "WordTongueModel", name := "put", desc := "(I)V" } : Jvm.MethodName)) ∈ lw_tbl := lw_at lw_m16 177 rfl
theorem q4032 : (Jvm.Cond.instanceMethod ({ cls := "WordTongueModel", name := "put", desc := "(I)V" } : Jvm.MethodName)) ∈ lw_all := lw_g (lw_at lw_m16 178 rfl) rfl
theorem q4033 : (Jvm.Cond.code ({ cls := "WordTongueModel", name := "put", desc := "(I)V" } : Jvm.MethodName) prog_20_method_63_code (2 : Nat) (Option.none : Option Jvm.ClassFile.FieldType)) ∈ lw_all := lw_g (lw_at lw_m16 179 rfl) rfl
theorem q4034 : (Jvm.Cond.methodLink "WordTongueModel" (773 : Nat) ({ cls := "WordTongueModel", name := "labelsOf", desc := "(I)V" } : Jvm.MethodName)) ∈ lw_all := lw_g (lw_at lw_m16 180 rfl) rfl
theorem q4035 : (Jvm.Cond.privateMethod ({ cls := "WordTongueModel", name := "labelsOf", desc := "(I)V" } : Jvm.MethodName)) ∈ lw_tbl := lw_at lw_m16 181 rfl
theorem q4036 : (Jvm.Cond.instanceMethod ({ cls := "WordTongueModel", name := "labelsOf", desc := "(I)V" } : Jvm.MethodName)) ∈ lw_all := lw_g (lw_at lw_m16 182 rfl) rfl
theorem q4037 : (Jvm.Cond.code ({ cls := "WordTongueModel", name := "labelsOf", desc := "(I)V" } : Jvm.MethodName) prog_20_method_81_code (4 : Nat) (Option.none : Option Jvm.ClassFile.FieldType)) ∈ lw_all := lw_g (lw_at lw_m16 183 rfl) rfl
theorem q4038 : (Jvm.Cond.methodLink "WordTongueModel" (779 : Nat) ({ cls := "WordTongueModel", name := "goesTo", desc := "(I)V" } : Jvm.MethodName)) ∈ lw_all := lw_g (lw_at lw_m16 184 rfl) rfl
theorem q4039 : (Jvm.Cond.privateMethod ({ cls := "WordTongueModel", name := "goesTo", desc := "(I)V" } : Jvm.MethodName)) ∈ lw_tbl := lw_at lw_m16 185 rfl
theorem q4040 : (Jvm.Cond.instanceMethod ({ cls := "WordTongueModel", name := "goesTo", desc := "(I)V" } : Jvm.MethodName)) ∈ lw_all := lw_g (lw_at lw_m16 186 rfl) rfl
theorem q4041 : (Jvm.Cond.code ({ cls := "WordTongueModel", name := "goesTo", desc := "(I)V" } : Jvm.MethodName) prog_20_method_87_code (3 : Nat) (Option.none : Option Jvm.ClassFile.FieldType)) ∈ lw_all := lw_g (lw_at lw_m16 187 rfl) rfl
theorem q4042 : (Jvm.Cond.methodLink "WordTongueModel" (715 : Nat) ({ cls := "WordTongueModel", name := "expressionOf", desc := "(I)V" } : Jvm.MethodName)) ∈ lw_all := lw_g (lw_at lw_m16 188 rfl) rfl
theorem q4043 : (Jvm.Cond.privateMethod ({ cls := "WordTongueModel", name := "expressionOf", desc := "(I)V" } : Jvm.MethodName)) ∈ lw_tbl := lw_at lw_m16 189 rfl
theorem q4044 : (Jvm.Cond.instanceMethod ({ cls := "WordTongueModel", name := "expressionOf", desc := "(I)V" } : Jvm.MethodName)) ∈ lw_all := lw_g (lw_at lw_m16 190 rfl) rfl
theorem q4045 : (Jvm.Cond.code ({ cls := "WordTongueModel", name := "expressionOf", desc := "(I)V" } : Jvm.MethodName) prog_20_method_90_code (4 : Nat) (Option.none : Option Jvm.ClassFile.FieldType)) ∈ lw_all := lw_g (lw_at lw_m16 191 rfl) rfl
theorem q4046 : (Jvm.Cond.methodLink "WordTongueModel" (782 : Nat) ({ cls := "WordTongueModel", name := "named", desc := "(I)I" } : Jvm.MethodName)) ∈ lw_all := lw_g (lw_at lw_m16 192 rfl) rfl
theorem q4047 : (Jvm.Cond.privateMethod ({ cls := "WordTongueModel", name := "named", desc := "(I)I" } : Jvm.MethodName)) ∈ lw_tbl := lw_at lw_m16 193 rfl
theorem q4048 : (Jvm.Cond.instanceMethod ({ cls := "WordTongueModel", name := "named", desc := "(I)I" } : Jvm.MethodName)) ∈ lw_all := lw_g (lw_at lw_m16 194 rfl) rfl
theorem q4049 : (Jvm.Cond.code ({ cls := "WordTongueModel", name := "named", desc := "(I)I" } : Jvm.MethodName) prog_20_method_88_code (3 : Nat) (Option.some Jvm.ClassFile.FieldType.int)) ∈ lw_all := lw_g (lw_at lw_m16 195 rfl) rfl
theorem q4050 : (Jvm.Cond.methodLink "WordTongueModel" (785 : Nat) ({ cls := "WordTongueModel", name := "string", desc := "(I)V" } : Jvm.MethodName)) ∈ lw_all := lw_g (lw_at lw_m16 196 rfl) rfl
theorem q4051 : (Jvm.Cond.privateMethod ({ cls := "WordTongueModel", name := "string", desc := "(I)V" } : Jvm.MethodName)) ∈ lw_tbl := lw_at lw_m16 197 rfl
theorem q4052 : (Jvm.Cond.instanceMethod ({ cls := "WordTongueModel", name := "string", desc := "(I)V" } : Jvm.MethodName)) ∈ lw_all := lw_g (lw_at lw_m16 198 rfl) rfl
theorem q4053 : (Jvm.Cond.code ({ cls := "WordTongueModel", name := "string", desc := "(I)V" } : Jvm.MethodName) prog_20_method_91_code (9 : Nat) (Option.none : Option Jvm.ClassFile.FieldType)) ∈ lw_all := lw_g (lw_at lw_m16 199 rfl) rfl
theorem q4054 : (Jvm.Cond.methodLink "WordTongueModel" (718 : Nat) ({ cls := "WordTongueModel", name := "placeOf", desc := "(IZ)V" } : Jvm.MethodName)) ∈ lw_all := lw_g (lw_at lw_m16 200 rfl) rfl
theorem q4055 : (Jvm.Cond.privateMethod ({ cls := "WordTongueModel", name := "placeOf", desc := "(IZ)V" } : Jvm.MethodName)) ∈ lw_tbl := lw_at lw_m16 201 rfl
theorem q4056 : (Jvm.Cond.instanceMethod ({ cls := "WordTongueModel", name := "placeOf", desc := "(IZ)V" } : Jvm.MethodName)) ∈ lw_all := lw_g (lw_at lw_m16 202 rfl) rfl
theorem q4057 : (Jvm.Cond.code ({ cls := "WordTongueModel", name := "placeOf", desc := "(IZ)V" } : Jvm.MethodName) prog_20_method_89_code (6 : Nat) (Option.none : Option Jvm.ClassFile.FieldType)) ∈ lw_all := lw_g (lw_at lw_m16 203 rfl) rfl
theorem q4058 : (Jvm.Cond.methodLink "WordTongueModel" (722 : Nat) ({ cls := "WordTongueModel", name := "routineOf", desc := "(II)V" } : Jvm.MethodName)) ∈ lw_all := lw_g (lw_at lw_m16 204 rfl) rfl
theorem q4059 : (Jvm.Cond.privateMethod ({ cls := "WordTongueModel", name := "routineOf", desc := "(II)V" } : Jvm.MethodName)) ∈ lw_tbl := lw_at lw_m16 205 rfl
theorem q4060 : (Jvm.Cond.instanceMethod ({ cls := "WordTongueModel", name := "routineOf", desc := "(II)V" } : Jvm.MethodName)) ∈ lw_all := lw_g (lw_at lw_m16 206 rfl) rfl
theorem q4061 : (Jvm.Cond.code ({ cls := "WordTongueModel", name := "routineOf", desc := "(II)V" } : Jvm.MethodName) prog_20_method_75_code (5 : Nat) (Option.none : Option Jvm.ClassFile.FieldType)) ∈ lw_all := lw_g (lw_at lw_m16 207 rfl) rfl
theorem q4062 : (Jvm.Cond.constant "WordTongueModel" (762 : Nat) (1000000 : Int32)) ∈ lw_all := lw_g (lw_at lw_m16 208 rfl) rfl
theorem q4063 : (Jvm.Cond.methodLink "WordTongueModel" (725 : Nat) ({ cls := "WordTongueModel", name := "routineEnds", desc := "(I)V" } : Jvm.MethodName)) ∈ lw_all := lw_g (lw_at lw_m16 209 rfl) rfl
theorem q4064 : (Jvm.Cond.privateMethod ({ cls := "WordTongueModel", name := "routineEnds", desc := "(I)V" } : Jvm.MethodName)) ∈ lw_tbl := lw_at lw_m16 210 rfl
theorem q4065 : (Jvm.Cond.instanceMethod ({ cls := "WordTongueModel", name := "routineEnds", desc := "(I)V" } : Jvm.MethodName)) ∈ lw_all := lw_g (lw_at lw_m16 211 rfl) rfl
theorem q4066 : (Jvm.Cond.code ({ cls := "WordTongueModel", name := "routineEnds", desc := "(I)V" } : Jvm.MethodName) prog_20_method_76_code (2 : Nat) (Option.none : Option Jvm.ClassFile.FieldType)) ∈ lw_all := lw_g (lw_at lw_m16 212 rfl) rfl
theorem q4067 : (Jvm.Cond.methodLink "WordTongueModel" (743 : Nat) ({ cls := "WordTongueModel", name := "pull", desc := "()I" } : Jvm.MethodName)) ∈ lw_all := lw_g (lw_at lw_m16 213 rfl) rfl
theorem q4068 : (Jvm.Cond.privateMethod ({ cls := "WordTongueModel", name := "pull", desc := "()I" } : Jvm.MethodName)) ∈ lw_tbl := lw_at lw_m16 214 rfl
theorem q4069 : (Jvm.Cond.instanceMethod ({ cls := "WordTongueModel", name := "pull", desc := "()I" } : Jvm.MethodName)) ∈ lw_all := lw_g (lw_at lw_m16 215 rfl) rfl
theorem q4070 : (Jvm.Cond.code ({ cls := "WordTongueModel", name := "pull", desc := "()I" } : Jvm.MethodName) prog_20_method_64_code (1 : Nat) (Option.some Jvm.ClassFile.FieldType.int)) ∈ lw_all := lw_g (lw_at lw_m16 216 rfl) rfl
theorem q4071 : (Jvm.Cond.methodLink "WordTongueModel" (728 : Nat) ({ cls := "WordTongueModel", name := "varsEnd", desc := "(I)V" } : Jvm.MethodName)) ∈ lw_all := lw_g (lw_at lw_m16 217 rfl) rfl
theorem q4072 : (Jvm.Cond.privateMethod ({ cls := "WordTongueModel", name := "varsEnd", desc := "(I)V" } : Jvm.MethodName)) ∈ lw_tbl := lw_at lw_m16 218 rfl
theorem q4073 : (Jvm.Cond.instanceMethod ({ cls := "WordTongueModel", name := "varsEnd", desc := "(I)V" } : Jvm.MethodName)) ∈ lw_all := lw_g (lw_at lw_m16 219 rfl) rfl
theorem q4074 : (Jvm.Cond.code ({ cls := "WordTongueModel", name := "varsEnd", desc := "(I)V" } : Jvm.MethodName) prog_20_method_78_code (5 : Nat) (Option.none : Option Jvm.ClassFile.FieldType)) ∈ lw_all := lw_g (lw_at lw_m16 220 rfl) rfl
theorem q4075 : (Jvm.Cond.methodLink "WordTongueModel" (767 : Nat) ({ cls := "WordTongueModel", name := "uses", desc := "(I)V" } : Jvm.MethodName)) ∈ lw_all := lw_g (lw_at lw_m16 221 rfl) rfl
theorem q4076 : (Jvm.Cond.privateMethod ({ cls := "WordTongueModel", name := "uses", desc := "(I)V" } : Jvm.MethodName)) ∈ lw_tbl := lw_at lw_m16 222 rfl
theorem q4077 : (Jvm.Cond.instanceMethod ({ cls := "WordTongueModel", name := "uses", desc := "(I)V" } : Jvm.MethodName)) ∈ lw_all := lw_g (lw_at lw_m16 223 rfl) rfl
theorem q4078 : (Jvm.Cond.code ({ cls := "WordTongueModel", name := "uses", desc := "(I)V" } : Jvm.MethodName) prog_20_method_77_code (2 : Nat) (Option.none : Option Jvm.ClassFile.FieldType)) ∈ lw_all := lw_g (lw_at lw_m16 224 rfl) rfl
theorem q4079 : (Jvm.Cond.constant "WordTongueModel" (766 : Nat) (40000 : Int32)) ∈ lw_all := lw_g (lw_at lw_m16 225 rfl) rfl
theorem q4080 : (Jvm.Cond.methodLink "WordTongueModel" (731 : Nat) ({ cls := "WordTongueModel", name := "blockEnds", desc := "(I)V" } : Jvm.MethodName)) ∈ lw_all := lw_g (lw_at lw_m16 226 rfl) rfl
theorem q4081 : (Jvm.Cond.privateMethod ({ cls := "WordTongueModel", name := "blockEnds", desc := "(I)V" } : Jvm.MethodName)) ∈ lw_tbl := lw_at lw_m16 227 rfl
theorem q4082 : (Jvm.Cond.instanceMethod ({ cls := "WordTongueModel", name := "blockEnds", desc := "(I)V" } : Jvm.MethodName)) ∈ lw_all := lw_g (lw_at lw_m16 228 rfl) rfl
theorem q4083 : (Jvm.Cond.code ({ cls := "WordTongueModel", name := "blockEnds", desc := "(I)V" } : Jvm.MethodName) prog_20_method_79_code (2 : Nat) (Option.none : Option Jvm.ClassFile.FieldType)) ∈ lw_all := lw_g (lw_at lw_m16 229 rfl) rfl
theorem q4084 : (Jvm.Cond.methodLink "WordTongueModel" (734 : Nat) ({ cls := "WordTongueModel", name := "forName", desc := "(I)V" } : Jvm.MethodName)) ∈ lw_all := lw_g (lw_at lw_m16 230 rfl) rfl
theorem q4085 : (Jvm.Cond.privateMethod ({ cls := "WordTongueModel", name := "forName", desc := "(I)V" } : Jvm.MethodName)) ∈ lw_tbl := lw_at lw_m16 231 rfl
theorem q4086 : (Jvm.Cond.instanceMethod ({ cls := "WordTongueModel", name := "forName", desc := "(I)V" } : Jvm.MethodName)) ∈ lw_all := lw_g (lw_at lw_m16 232 rfl) rfl
theorem q4087 : (Jvm.Cond.code ({ cls := "WordTongueModel", name := "forName", desc := "(I)V" } : Jvm.MethodName) prog_20_method_82_code (5 : Nat) (Option.none : Option Jvm.ClassFile.FieldType)) ∈ lw_all := lw_g (lw_at lw_m16 233 rfl) rfl
theorem q4088 : (Jvm.Cond.methodLink "WordTongueModel" (737 : Nat) ({ cls := "WordTongueModel", name := "switchOf", desc := "(I)V" } : Jvm.MethodName)) ∈ lw_all := lw_g (lw_at lw_m16 234 rfl) rfl
theorem q4089 : (Jvm.Cond.privateMethod ({ cls := "WordTongueModel", name := "switchOf", desc := "(I)V" } : Jvm.MethodName)) ∈ lw_tbl := lw_at lw_m16 235 rfl
theorem q4090 : (Jvm.Cond.instanceMethod ({ cls := "WordTongueModel", name := "switchOf", desc := "(I)V" } : Jvm.MethodName)) ∈ lw_all := lw_g (lw_at lw_m16 236 rfl) rfl
theorem q4091 : (Jvm.Cond.code ({ cls := "WordTongueModel", name := "switchOf", desc := "(I)V" } : Jvm.MethodName) prog_20_method_83_code (7 : Nat) (Option.none : Option Jvm.ClassFile.FieldType)) ∈ lw_all := lw_g (lw_at lw_m16 237 rfl) rfl
theorem q4092 : (Jvm.Cond.methodLink "WordTongueModel" (776 : Nat) ({ cls := "WordTongueModel", name := "isTwice", desc := "(II)Z" } : Jvm.MethodName)) ∈ lw_all := lw_g (lw_at lw_m16 238 rfl) rfl
theorem q4093 : (Jvm.Cond.privateMethod ({ cls := "WordTongueModel", name := "isTwice", desc := "(II)Z" } : Jvm.MethodName)) ∈ lw_tbl := lw_at lw_m16 239 rfl
theorem q4094 : (Jvm.Cond.instanceMethod ({ cls := "WordTongueModel", name := "isTwice", desc := "(II)Z" } : Jvm.MethodName)) ∈ lw_all := lw_g (lw_at lw_m17 0 rfl) rfl
theorem q4095 : (Jvm.Cond.code ({ cls := "WordTongueModel", name := "isTwice", desc := "(II)Z" } : Jvm.MethodName) prog_20_method_84_code (5 : Nat) (Option.some Jvm.ClassFile.FieldType.boolean)) ∈ lw_all := lw_g (lw_at lw_m17 1 rfl) rfl
theorem q4096 : (Jvm.Cond.methodLink "WordTongueModel" (740 : Nat) ({ cls := "WordTongueModel", name := "part", desc := "(I)V" } : Jvm.MethodName)) ∈ lw_all := lw_g (lw_at lw_m17 2 rfl) rfl
theorem q4097 : (Jvm.Cond.privateMethod ({ cls := "WordTongueModel", name := "part", desc := "(I)V" } : Jvm.MethodName)) ∈ lw_tbl := lw_at lw_m17 3 rfl
theorem q4098 : (Jvm.Cond.instanceMethod ({ cls := "WordTongueModel", name := "part", desc := "(I)V" } : Jvm.MethodName)) ∈ lw_all := lw_g (lw_at lw_m17 4 rfl) rfl
theorem q4099 : (Jvm.Cond.code ({ cls := "WordTongueModel", name := "part", desc := "(I)V" } : Jvm.MethodName) prog_20_method_85_code (3 : Nat) (Option.none : Option Jvm.ClassFile.FieldType)) ∈ lw_all := lw_g (lw_at lw_m17 5 rfl) rfl
theorem q4101 : (Jvm.Cond.instanceMethod ({ cls := "WordTongueModel", name := "fault", desc := "()I" } : Jvm.MethodName)) ∈ lw_all := lw_g (lw_at lw_m17 7 rfl) rfl
theorem q4102 : (Jvm.Cond.selects "WordTongueModel" ({ cls := "WordTongueModel", name := "fault", desc := "()I" } : Jvm.MethodName) ({ cls := "WordTongueModel", name := "fault", desc := "()I" } : Jvm.MethodName)) ∈ lw_all := lw_g (lw_at lw_m17 8 rfl) rfl
theorem q4103 : (Jvm.Cond.code ({ cls := "WordTongueModel", name := "fault", desc := "()I" } : Jvm.MethodName) prog_20_method_137_code (1 : Nat) (Option.some Jvm.ClassFile.FieldType.int)) ∈ lw_all := lw_g (lw_at lw_m17 9 rfl) rfl
theorem q4105 : (Jvm.Cond.instanceMethod ({ cls := "WordTongueModel", name := "store", desc := "(I)Z" } : Jvm.MethodName)) ∈ lw_all := lw_g (lw_at lw_m17 11 rfl) rfl
theorem q4106 : (Jvm.Cond.selects "WordTongueModel" ({ cls := "WordTongueModel", name := "store", desc := "(I)Z" } : Jvm.MethodName) ({ cls := "WordTongueModel", name := "store", desc := "(I)Z" } : Jvm.MethodName)) ∈ lw_all := lw_g (lw_at lw_m17 12 rfl) rfl
theorem q4107 : (Jvm.Cond.code ({ cls := "WordTongueModel", name := "store", desc := "(I)Z" } : Jvm.MethodName) prog_20_method_138_code (2 : Nat) (Option.some Jvm.ClassFile.FieldType.boolean)) ∈ lw_all := lw_g (lw_at lw_m17 13 rfl) rfl
theorem q4108 : (Jvm.Cond.constant "WordTongueModel" (926 : Nat) (32768 : Int32)) ∈ lw_all := lw_g (lw_at lw_m17 14 rfl) rfl
theorem q4110 : (Jvm.Cond.instanceMethod ({ cls := "WordTongueModel", name := "input", desc := "(I)I" } : Jvm.MethodName)) ∈ lw_all := lw_g (lw_at lw_m17 16 rfl) rfl
theorem q4111 : (Jvm.Cond.selects "WordTongueModel" ({ cls := "WordTongueModel", name := "input", desc := "(I)I" } : Jvm.MethodName) ({ cls := "WordTongueModel", name := "input", desc := "(I)I" } : Jvm.MethodName)) ∈ lw_all := lw_g (lw_at lw_m17 17 rfl) rfl
theorem q4112 : (Jvm.Cond.code ({ cls := "WordTongueModel", name := "input", desc := "(I)I" } : Jvm.MethodName) prog_20_method_139_code (4 : Nat) (Option.some Jvm.ClassFile.FieldType.int)) ∈ lw_all := lw_g (lw_at lw_m17 18 rfl) rfl
theorem q4113 : (Jvm.Cond.methodLink "WordTongueModel" (927 : Nat) ({ cls := "WordTongueModel", name := "rowsOf", desc := "(I)V" } : Jvm.MethodName)) ∈ lw_all := lw_g (lw_at lw_m17 19 rfl) rfl
theorem q4114 : (Jvm.Cond.privateMethod ({ cls := "WordTongueModel", name := "rowsOf", desc := "(I)V" } : Jvm.MethodName)) ∈ lw_tbl := lw_at lw_m17 20 rfl
theorem q4115 : (Jvm.Cond.instanceMethod ({ cls := "WordTongueModel", name := "rowsOf", desc := "(I)V" } : Jvm.MethodName)) ∈ lw_all := lw_g (lw_at lw_m17 21 rfl) rfl
theorem q4116 : (Jvm.Cond.code ({ cls := "WordTongueModel", name := "rowsOf", desc := "(I)V" } : Jvm.MethodName) prog_20_method_116_code (9 : Nat) (Option.none : Option Jvm.ClassFile.FieldType)) ∈ lw_all := lw_g (lw_at lw_m17 22 rfl) rfl
theorem q4117 : (Jvm.Cond.methodLink "WordTongueModel" (840 : Nat) ({ cls := "WordTongueModel", name := "isBlank", desc := "(I)Z" } : Jvm.MethodName)) ∈ lw_all := lw_g (lw_at lw_m17 23 rfl) rfl
theorem q4118 : (Jvm.Cond.static ({ cls := "WordTongueModel", name := "isBlank", desc := "(I)Z" } : Jvm.MethodName)) ∈ lw_all := lw_g (lw_at lw_m17 24 rfl) rfl
theorem q4119 : (Jvm.Cond.code ({ cls := "WordTongueModel", name := "isBlank", desc := "(I)Z" } : Jvm.MethodName) prog_20_method_115_code (1 : Nat) (Option.some Jvm.ClassFile.FieldType.boolean)) ∈ lw_all := lw_g (lw_at lw_m17 25 rfl) rfl
theorem q4121 : (Jvm.Cond.instanceMethod ({ cls := "WordTongueModel", name := "run", desc := "(I)I" } : Jvm.MethodName)) ∈ lw_all := lw_g (lw_at lw_m17 27 rfl) rfl
theorem q4122 : (Jvm.Cond.selects "WordTongueModel" ({ cls := "WordTongueModel", name := "run", desc := "(I)I" } : Jvm.MethodName) ({ cls := "WordTongueModel", name := "run", desc := "(I)I" } : Jvm.MethodName)) ∈ lw_all := lw_g (lw_at lw_m17 28 rfl) rfl
theorem q4123 : (Jvm.Cond.code ({ cls := "WordTongueModel", name := "run", desc := "(I)I" } : Jvm.MethodName) prog_20_method_140_code (3 : Nat) (Option.some Jvm.ClassFile.FieldType.int)) ∈ lw_all := lw_g (lw_at lw_m17 29 rfl) rfl
theorem q4124 : (Jvm.Cond.constant "WordTongueModel" (930 : Nat) (100000 : Int32)) ∈ lw_all := lw_g (lw_at lw_m17 30 rfl) rfl
theorem q4125 : (Jvm.Cond.methodLink "WordTongueModel" (827 : Nat) ({ cls := "WordTongueModel", name := "enter", desc := "(III)V" } : Jvm.MethodName)) ∈ lw_all := lw_g (lw_at lw_m17 31 rfl) rfl
theorem q4126 : (Jvm.Cond.privateMethod ({ cls := "WordTongueModel", name := "enter", desc := "(III)V" } : Jvm.MethodName)) ∈ lw_tbl := lw_at lw_m17 32 rfl
theorem q4127 : (Jvm.Cond.instanceMethod ({ cls := "WordTongueModel", name := "enter", desc := "(III)V" } : Jvm.MethodName)) ∈ lw_all := lw_g (lw_at lw_m17 33 rfl) rfl
theorem q4128 : (Jvm.Cond.code ({ cls := "WordTongueModel", name := "enter", desc := "(III)V" } : Jvm.MethodName) prog_20_method_107_code (7 : Nat) (Option.none : Option Jvm.ClassFile.FieldType)) ∈ lw_all := lw_g (lw_at lw_m17 34 rfl) rfl
theorem q4129 : (Jvm.Cond.methodLink "WordTongueModel" (817 : Nat) ({ cls := "WordTongueModel", name := "burns", desc := "()Z" } : Jvm.MethodName)) ∈ lw_all := lw_g (lw_at lw_m17 35 rfl) rfl
theorem q4130 : (Jvm.Cond.privateMethod ({ cls := "WordTongueModel", name := "burns", desc := "()Z" } : Jvm.MethodName)) ∈ lw_tbl := lw_at lw_m17 36 rfl
theorem q4131 : (Jvm.Cond.instanceMethod ({ cls := "WordTongueModel", name := "burns", desc := "()Z" } : Jvm.MethodName)) ∈ lw_all := lw_g (lw_at lw_m17 37 rfl) rfl
theorem q4132 : (Jvm.Cond.code ({ cls := "WordTongueModel", name := "burns", desc := "()Z" } : Jvm.MethodName) prog_20_method_95_code (1 : Nat) (Option.some Jvm.ClassFile.FieldType.boolean)) ∈ lw_all := lw_g (lw_at lw_m17 38 rfl) rfl
theorem q4133 : (Jvm.Cond.methodLink "WordTongueModel" (792 : Nat) ({ cls := "WordTongueModel", name := "err", desc := "(I)V" } : Jvm.MethodName)) ∈ lw_all := lw_g (lw_at lw_m17 39 rfl) rfl
theorem q4134 : (Jvm.Cond.privateMethod ({ cls := "WordTongueModel", name := "err", desc := "(I)V" } : Jvm.MethodName)) ∈ lw_tbl := lw_at lw_m17 40 rfl
theorem q4135 : (Jvm.Cond.instanceMethod ({ cls := "WordTongueModel", name := "err", desc := "(I)V" } : Jvm.MethodName)) ∈ lw_all := lw_g (lw_at lw_m17 41 rfl) rfl
theorem q4136 : (Jvm.Cond.code ({ cls := "WordTongueModel", name := "err", desc := "(I)V" } : Jvm.MethodName) prog_20_method_94_code (2 : Nat) (Option.none : Option Jvm.ClassFile.FieldType)) ∈ lw_all := lw_g (lw_at lw_m17 42 rfl) rfl
theorem q4137 : (Jvm.Cond.methodLink "WordTongueModel" (820 : Nat) ({ cls := "WordTongueModel", name := "limit", desc := "()I" } : Jvm.MethodName)) ∈ lw_all := lw_g (lw_at lw_m17 43 rfl) rfl
theorem q4138 : (Jvm.Cond.privateMethod ({ cls := "WordTongueModel", name := "limit", desc := "()I" } : Jvm.MethodName)) ∈ lw_tbl := lw_at lw_m17 44 rfl
theorem q4139 : (Jvm.Cond.instanceMethod ({ cls := "WordTongueModel", name := "limit", desc := "()I" } : Jvm.MethodName)) ∈ lw_all := lw_g (lw_at lw_m17 45 rfl) rfl
theorem q4140 : (Jvm.Cond.code ({ cls := "WordTongueModel", name := "limit", desc := "()I" } : Jvm.MethodName) prog_20_method_106_code (1 : Nat) (Option.some Jvm.ClassFile.FieldType.int)) ∈ lw_all := lw_g (lw_at lw_m17 46 rfl) rfl
theorem q4141 : (Jvm.Cond.methodLink "WordTongueModel" (801 : Nat) ({ cls := "WordTongueModel", name := "todoTask", desc := "(III)V" } : Jvm.MethodName)) ∈ lw_all := lw_g (lw_at lw_m17 47 rfl) rfl
theorem q4142 : (Jvm.Cond.privateMethod ({ cls := "WordTongueModel", name := "todoTask", desc := "(III)V" } : Jvm.MethodName)) ∈ lw_tbl := lw_at lw_m17 48 rfl
theorem q4143 : (Jvm.Cond.instanceMethod ({ cls := "WordTongueModel", name := "todoTask", desc := "(III)V" } : Jvm.MethodName)) ∈ lw_all := lw_g (lw_at lw_m17 49 rfl) rfl
theorem q4144 : (Jvm.Cond.code ({ cls := "WordTongueModel", name := "todoTask", desc := "(III)V" } : Jvm.MethodName) prog_20_method_93_code (4 : Nat) (Option.none : Option Jvm.ClassFile.FieldType)) ∈ lw_all := lw_g (lw_at lw_m17 50 rfl) rfl
theorem q4145 : (Jvm.Cond.methodLink "WordTongueModel" (788 : Nat) ({ cls := "WordTongueModel", name := "longer", desc := "([I)[I" } : Jvm.MethodName)) ∈ lw_all := lw_g (lw_at lw_m17 51 rfl) rfl
theorem q4146 : (Jvm.Cond.static ({ cls := "WordTongueModel", name := "longer", desc := "([I)[I" } : Jvm.MethodName)) ∈ lw_all := lw_g (lw_at lw_m17 52 rfl) rfl
theorem q4147 : (Jvm.Cond.code ({ cls := "WordTongueModel", name := "longer", desc := "([I)[I" } : Jvm.MethodName) prog_20_method_92_code (3 : Nat) (Option.some (Jvm.ClassFile.FieldType.array Jvm.ClassFile.FieldType.int))) ∈ lw_all := lw_g (lw_at lw_m17 53 rfl) rfl
theorem q4148 : (Jvm.Cond.methodLink "WordTongueModel" (931 : Nat) ({ cls := "WordTongueModel", name := "doNext", desc := "()V" } : Jvm.MethodName)) ∈ lw_all := lw_g (lw_at lw_m17 54 rfl) rfl
theorem q4149 : (Jvm.Cond.privateMethod ({ cls := "WordTongueModel", name := "doNext", desc := "()V" } : Jvm.MethodName)) ∈ lw_tbl := lw_at lw_m17 55 rfl
theorem q4150 : (Jvm.Cond.instanceMethod ({ cls := "WordTongueModel", name := "doNext", desc := "()V" } : Jvm.MethodName)) ∈ lw_all := lw_g (lw_at lw_m17 56 rfl) rfl
theorem q4151 : (Jvm.Cond.code ({ cls := "WordTongueModel", name := "doNext", desc := "()V" } : Jvm.MethodName) prog_20_method_132_code (6 : Nat) (Option.none : Option Jvm.ClassFile.FieldType)) ∈ lw_all := lw_g (lw_at lw_m17 57 rfl) rfl
theorem q4152 : (Jvm.Cond.methodLink "WordTongueModel" (881 : Nat) ({ cls := "WordTongueModel", name := "evaluate", desc := "(I)V" } : Jvm.MethodName)) ∈ lw_all := lw_g (lw_at lw_m17 58 rfl) rfl
theorem q4153 : (Jvm.Cond.privateMethod ({ cls := "WordTongueModel", name := "evaluate", desc := "(I)V" } : Jvm.MethodName)) ∈ lw_tbl := lw_at lw_m17 59 rfl
theorem q4154 : (Jvm.Cond.instanceMethod ({ cls := "WordTongueModel", name := "evaluate", desc := "(I)V" } : Jvm.MethodName)) ∈ lw_all := lw_g (lw_at lw_m17 60 rfl) rfl
theorem q4155 : (Jvm.Cond.code ({ cls := "WordTongueModel", name := "evaluate", desc := "(I)V" } : Jvm.MethodName) prog_20_method_101_code (6 : Nat) (Option.none : Option Jvm.ClassFile.FieldType)) ∈ lw_all := lw_g (lw_at lw_m17 61 rfl) rfl
theorem q4156 : (Jvm.Cond.methodLink "WordTongueModel" (795 : Nat) ({ cls := "WordTongueModel", name := "push", desc := "(I)V" } : Jvm.MethodName)) ∈ lw_all := lw_g (lw_at lw_m17 62 rfl) rfl
theorem q4157 : (Jvm.Cond.privateMethod ({ cls := "WordTongueModel", name := "push", desc := "(I)V" } : Jvm.MethodName)) ∈ lw_tbl := lw_at lw_m17 63 rfl
theorem q4158 : (Jvm.Cond.instanceMethod ({ cls := "WordTongueModel", name := "push", desc := "(I)V" } : Jvm.MethodName)) ∈ lw_all := lw_g (lw_at lw_m17 64 rfl) rfl
theorem q4159 : (Jvm.Cond.code ({ cls := "WordTongueModel", name := "push", desc := "(I)V" } : Jvm.MethodName) prog_20_method_96_code (2 : Nat) (Option.none : Option Jvm.ClassFile.FieldType)) ∈ lw_all := lw_g (lw_at lw_m17 65 rfl) rfl
theorem q4160 : (Jvm.Cond.methodLink "WordTongueModel" (798 : Nat) ({ cls := "WordTongueModel", name := "wordOf", desc := "(I)I" } : Jvm.MethodName)) ∈ lw_all := lw_g (lw_at lw_m17 66 rfl) rfl
theorem q4161 : (Jvm.Cond.privateMethod ({ cls := "WordTongueModel", name := "wordOf", desc := "(I)I" } : Jvm.MethodName)) ∈ lw_tbl := lw_at lw_m17 67 rfl
theorem q4162 : (Jvm.Cond.instanceMethod ({ cls := "WordTongueModel", name := "wordOf", desc := "(I)I" } : Jvm.MethodName)) ∈ lw_all := lw_g (lw_at lw_m17 68 rfl) rfl
theorem q4163 : (Jvm.Cond.code ({ cls := "WordTongueModel", name := "wordOf", desc := "(I)I" } : Jvm.MethodName) prog_20_method_100_code (2 : Nat) (Option.some Jvm.ClassFile.FieldType.int)) ∈ lw_all := lw_g (lw_at lw_m17 69 rfl) rfl
theorem q4164 : (Jvm.Cond.methodLink "WordTongueModel" (804 : Nat) ({ cls := "WordTongueModel", name := "address", desc := "(I)V" } : Jvm.MethodName)) ∈ lw_all := lw_g (lw_at lw_m17 70 rfl) rfl
theorem q4165 : (Jvm.Cond.privateMethod ({ cls := "WordTongueModel", name := "address", desc := "(I)V" } : Jvm.MethodName)) ∈ lw_tbl := lw_at lw_m17 71 rfl
theorem q4166 : (Jvm.Cond.instanceMethod ({ cls := "WordTongueModel", name := "address", desc := "(I)V" } : Jvm.MethodName)) ∈ lw_all := lw_g (lw_at lw_m17 72 rfl) rfl
theorem q4167 : (Jvm.Cond.code ({ cls := "WordTongueModel", name := "address", desc := "(I)V" } : Jvm.MethodName) prog_20_method_103_code (3 : Nat) (Option.none : Option Jvm.ClassFile.FieldType)) ∈ lw_all := lw_g (lw_at lw_m17 73 rfl) rfl
theorem q4168 : (Jvm.Cond.methodLink "WordTongueModel" (807 : Nat) ({ cls := "WordTongueModel", name := "turnTodo", desc := "(I)V" } : Jvm.MethodName)) ∈ lw_all := lw_g (lw_at lw_m17 74 rfl) rfl
theorem q4169 : (Jvm.Cond.privateMethod ({ cls := "WordTongueModel", name := "turnTodo", desc := "(I)V" } : Jvm.MethodName)) ∈ lw_tbl := lw_at lw_m17 75 rfl
theorem q4170 : (Jvm.Cond.instanceMethod ({ cls := "WordTongueModel", name := "turnTodo", desc := "(I)V" } : Jvm.MethodName)) ∈ lw_all := lw_g (lw_at lw_m17 76 rfl) rfl
theorem q4171 : (Jvm.Cond.code ({ cls := "WordTongueModel", name := "turnTodo", desc := "(I)V" } : Jvm.MethodName) prog_20_method_102_code (7 : Nat) (Option.none : Option Jvm.ClassFile.FieldType)) ∈ lw_all := lw_g (lw_at lw_m17 77 rfl) rfl
theorem q4172 : (Jvm.Cond.methodLink "WordTongueModel" (884 : Nat) ({ cls := "WordTongueModel", name := "bin", desc := "(I)V" } : Jvm.MethodName)) ∈ lw_all := lw_g (lw_at lw_m17 78 rfl) rfl
theorem q4173 : (Jvm.Cond.privateMethod ({ cls := "WordTongueModel", name := "bin", desc := "(I)V" } : Jvm.MethodName)) ∈ lw_tbl := lw_at lw_m17 79 rfl
theorem q4174 : (Jvm.Cond.instanceMethod ({ cls := "WordTongueModel", name := "bin", desc := "(I)V" } : Jvm.MethodName)) ∈ lw_all := lw_g (lw_at lw_m17 80 rfl) rfl
theorem q4175 : (Jvm.Cond.code ({ cls := "WordTongueModel", name := "bin", desc := "(I)V" } : Jvm.MethodName) prog_20_method_104_code (5 : Nat) (Option.none : Option Jvm.ClassFile.FieldType)) ∈ lw_all := lw_g (lw_at lw_m17 81 rfl) rfl
theorem q4176 : (Jvm.Cond.methodLink "WordTongueModel" (810 : Nat) ({ cls := "WordTongueModel", name := "pop", desc := "()I" } : Jvm.MethodName)) ∈ lw_all := lw_g (lw_at lw_m17 82 rfl) rfl
theorem q4177 : (Jvm.Cond.privateMethod ({ cls := "WordTongueModel", name := "pop", desc := "()I" } : Jvm.MethodName)) ∈ lw_tbl := lw_at lw_m17 83 rfl
theorem q4178 : (Jvm.Cond.instanceMethod ({ cls := "WordTongueModel", name := "pop", desc := "()I" } : Jvm.MethodName)) ∈ lw_all := lw_g (lw_at lw_m17 84 rfl) rfl
theorem q4179 : (Jvm.Cond.code ({ cls := "WordTongueModel", name := "pop", desc := "()I" } : Jvm.MethodName) prog_20_method_97_code (1 : Nat) (Option.some Jvm.ClassFile.FieldType.int)) ∈ lw_all := lw_g (lw_at lw_m17 85 rfl) rfl
theorem q4180 : (Jvm.Cond.methodLink "WordTongueModel" (813 : Nat) ({ cls := "WordTongueModel", name := "read", desc := "(J)I" } : Jvm.MethodName)) ∈ lw_all := lw_g (lw_at lw_m17 86 rfl) rfl
theorem q4181 : (Jvm.Cond.privateMethod ({ cls := "WordTongueModel", name := "read", desc := "(J)I" } : Jvm.MethodName)) ∈ lw_tbl := lw_at lw_m17 87 rfl
theorem q4182 : (Jvm.Cond.instanceMethod ({ cls := "WordTongueModel", name := "read", desc := "(J)I" } : Jvm.MethodName)) ∈ lw_all := lw_g (lw_at lw_m17 88 rfl) rfl
theorem q4183 : (Jvm.Cond.code ({ cls := "WordTongueModel", name := "read", desc := "(J)I" } : Jvm.MethodName) prog_20_method_98_code (3 : Nat) (Option.some Jvm.ClassFile.FieldType.int)) ∈ lw_all := lw_g (lw_at lw_m17 89 rfl) rfl
theorem q4184 : (Jvm.Cond.methodLink "WordTongueModel" (887 : Nat) ({ cls := "WordTongueModel", name := "rel", desc := "(II)V" } : Jvm.MethodName)) ∈ lw_all := lw_g (lw_at lw_m17 90 rfl) rfl
theorem q4185 : (Jvm.Cond.privateMethod ({ cls := "WordTongueModel", name := "rel", desc := "(II)V" } : Jvm.MethodName)) ∈ lw_tbl := lw_at lw_m17 91 rfl
theorem q4186 : (Jvm.Cond.instanceMethod ({ cls := "WordTongueModel", name := "rel", desc := "(II)V" } : Jvm.MethodName)) ∈ lw_all := lw_g (lw_at lw_m17 92 rfl) rfl
theorem q4187 : (Jvm.Cond.code ({ cls := "WordTongueModel", name := "rel", desc := "(II)V" } : Jvm.MethodName) prog_20_method_105_code (6 : Nat) (Option.none : Option Jvm.ClassFile.FieldType)) ∈ lw_all := lw_g (lw_at lw_m17 93 rfl) rfl
theorem q4188 : (Jvm.Cond.methodLink "WordTongueModel" (890 : Nat) ({ cls := "WordTongueModel", name := "call", desc := "(II)V" } : Jvm.MethodName)) ∈ lw_all := lw_g (lw_at lw_m17 94 rfl) rfl
theorem q4189 : (Jvm.Cond.privateMethod ({ cls := "WordTongueModel", name := "call", desc := "(II)V" } : Jvm.MethodName)) ∈ lw_tbl := lw_at lw_m17 95 rfl
theorem q4190 : (Jvm.Cond.instanceMethod ({ cls := "WordTongueModel", name := "call", desc := "(II)V" } : Jvm.MethodName)) ∈ lw_all := lw_g (lw_at lw_m17 96 rfl) rfl
theorem q4191 : (Jvm.Cond.code ({ cls := "WordTongueModel", name := "call", desc := "(II)V" } : Jvm.MethodName) prog_20_method_108_code (5 : Nat) (Option.none : Option Jvm.ClassFile.FieldType)) ∈ lw_all := lw_g (lw_at lw_m17 97 rfl) rfl
theorem q4192 : (Jvm.Cond.constant "WordTongueModel" (823 : Nat) (2000018 : Int32)) ∈ lw_all := lw_g (lw_at lw_m17 98 rfl) rfl
theorem q4193 : (Jvm.Cond.methodLink "WordTongueModel" (824 : Nat) ({ cls := "WordTongueModel", name := "libraryCall", desc := "(III)V" } : Jvm.MethodName)) ∈ lw_all := lw_g (lw_at lw_m17 99 rfl) rfl
theorem q4194 : (Jvm.Cond.privateMethod ({ cls := "WordTongueModel", name := "libraryCall", desc := "(III)V" } : Jvm.MethodName)) ∈ lw_tbl := lw_at lw_m17 100 rfl
theorem q4195 : (Jvm.Cond.instanceMethod ({ cls := "WordTongueModel", name := "libraryCall", desc := "(III)V" } : Jvm.MethodName)) ∈ lw_all := lw_g (lw_at lw_m17 101 rfl) rfl
theorem q4196 : (Jvm.Cond.code ({ cls := "WordTongueModel", name := "libraryCall", desc := "(III)V" } : Jvm.MethodName) prog_20_method_122_code (14 : Nat) (Option.none : Option Jvm.ClassFile.FieldType)) ∈ lw_all := lw_g (lw_at lw_m17 102 rfl) rfl
theorem q4197 : (Jvm.Cond.methodLink "WordTongueModel" (850 : Nat) ({ cls := "WordTongueModel", name := "arg", desc := "(II)I" } : Jvm.MethodName)) ∈ lw_all := lw_g (lw_at lw_m17 103 rfl) rfl
theorem q4198 : (Jvm.Cond.privateMethod ({ cls := "WordTongueModel", name := "arg", desc := "(II)I" } : Jvm.MethodName)) ∈ lw_tbl := lw_at lw_m17 104 rfl
theorem q4199 : (Jvm.Cond.instanceMethod ({ cls := "WordTongueModel", name := "arg", desc := "(II)I" } : Jvm.MethodName)) ∈ lw_all := lw_g (lw_at lw_m17 105 rfl) rfl
theorem q4200 : (Jvm.Cond.code ({ cls := "WordTongueModel", name := "arg", desc := "(II)I" } : Jvm.MethodName) prog_20_method_109_code (3 : Nat) (Option.some Jvm.ClassFile.FieldType.int)) ∈ lw_all := lw_g (lw_at lw_m17 106 rfl) rfl
theorem q4201 : (Jvm.Cond.methodLink "WordTongueModel" (853 : Nat) ({ cls := "WordTongueModel", name := "decimal", desc := "(II)V" } : Jvm.MethodName)) ∈ lw_all := lw_g (lw_at lw_m17 107 rfl) rfl
theorem q4202 : (Jvm.Cond.privateMethod ({ cls := "WordTongueModel", name := "decimal", desc := "(II)V" } : Jvm.MethodName)) ∈ lw_tbl := lw_at lw_m17 108 rfl
theorem q4203 : (Jvm.Cond.instanceMethod ({ cls := "WordTongueModel", name := "decimal", desc := "(II)V" } : Jvm.MethodName)) ∈ lw_all := lw_g (lw_at lw_m17 109 rfl) rfl
theorem q4204 : (Jvm.Cond.code ({ cls := "WordTongueModel", name := "decimal", desc := "(II)V" } : Jvm.MethodName) prog_20_method_111_code (9 : Nat) (Option.none : Option Jvm.ClassFile.FieldType)) ∈ lw_all := lw_g (lw_at lw_m17 110 rfl) rfl
theorem q4205 : (Jvm.Cond.constantLong "WordTongueModel" (830 : Nat) (48 : Int64)) ∈ lw_all := lw_g (lw_at lw_m17 111 rfl) rfl
theorem q4206 : (Jvm.Cond.constantLong "WordTongueModel" (832 : Nat) (10 : Int64)) ∈ lw_all := lw_g (lw_at lw_m17 112 rfl) rfl
theorem q4207 : (Jvm.Cond.methodLink "WordTongueModel" (834 : Nat) ({ cls := "WordTongueModel", name := "outByte", desc := "(I)V" } : Jvm.MethodName)) ∈ lw_all := lw_g (lw_at lw_m17 113 rfl) rfl
theorem q4208 : (Jvm.Cond.privateMethod ({ cls := "WordTongueModel", name := "outByte", desc := "(I)V" } : Jvm.MethodName)) ∈ lw_tbl := lw_at lw_m17 114 rfl
theorem q4209 : (Jvm.Cond.instanceMethod ({ cls := "WordTongueModel", name := "outByte", desc := "(I)V" } : Jvm.MethodName)) ∈ lw_all := lw_g (lw_at lw_m17 115 rfl) rfl
theorem q4210 : (Jvm.Cond.code ({ cls := "WordTongueModel", name := "outByte", desc := "(I)V" } : Jvm.MethodName) prog_20_method_110_code (3 : Nat) (Option.none : Option Jvm.ClassFile.FieldType)) ∈ lw_all := lw_g (lw_at lw_m17 116 rfl) rfl
theorem q4211 : (Jvm.Cond.methodLink "WordTongueModel" (856 : Nat) ({ cls := "WordTongueModel", name := "writeString", desc := "(I)V" } : Jvm.MethodName)) ∈ lw_all := lw_g (lw_at lw_m17 117 rfl) rfl
theorem q4212 : (Jvm.Cond.privateMethod ({ cls := "WordTongueModel", name := "writeString", desc := "(I)V" } : Jvm.MethodName)) ∈ lw_tbl := lw_at lw_m17 118 rfl
theorem q4213 : (Jvm.Cond.instanceMethod ({ cls := "WordTongueModel", name := "writeString", desc := "(I)V" } : Jvm.MethodName)) ∈ lw_all := lw_g (lw_at lw_m17 119 rfl) rfl
theorem q4214 : (Jvm.Cond.code ({ cls := "WordTongueModel", name := "writeString", desc := "(I)V" } : Jvm.MethodName) prog_20_method_117_code (4 : Nat) (Option.none : Option Jvm.ClassFile.FieldType)) ∈ lw_all := lw_g (lw_at lw_m17 120 rfl) rfl
theorem q4215 : (Jvm.Cond.methodLink "WordTongueModel" (843 : Nat) ({ cls := "WordTongueModel", name := "nextByte", desc := "()I" } : Jvm.MethodName)) ∈ lw_all := lw_g (lw_at lw_m17 121 rfl) rfl
theorem q4216 : (Jvm.Cond.privateMethod ({ cls := "WordTongueModel", name := "nextByte", desc := "()I" } : Jvm.MethodName)) ∈ lw_tbl := lw_at lw_m17 122 rfl
theorem q4217 : (Jvm.Cond.instanceMethod ({ cls := "WordTongueModel", name := "nextByte", desc := "()I" } : Jvm.MethodName)) ∈ lw_all := lw_g (lw_at lw_m17 123 rfl) rfl
theorem q4218 : (Jvm.Cond.code ({ cls := "WordTongueModel", name := "nextByte", desc := "()I" } : Jvm.MethodName) prog_20_method_112_code (2 : Nat) (Option.some Jvm.ClassFile.FieldType.int)) ∈ lw_all := lw_g (lw_at lw_m17 124 rfl) rfl
theorem q4219 : (Jvm.Cond.methodLink "WordTongueModel" (859 : Nat) ({ cls := "WordTongueModel", name := "getVector", desc := "(I)I" } : Jvm.MethodName)) ∈ lw_all := lw_g (lw_at lw_m17 125 rfl) rfl
theorem q4220 : (Jvm.Cond.privateMethod ({ cls := "WordTongueModel", name := "getVector", desc := "(I)I" } : Jvm.MethodName)) ∈ lw_tbl := lw_at lw_m17 126 rfl
theorem q4221 : (Jvm.Cond.instanceMethod ({ cls := "WordTongueModel", name := "getVector", desc := "(I)I" } : Jvm.MethodName)) ∈ lw_all := lw_g (lw_at lw_m17 127 rfl) rfl
theorem q4222 : (Jvm.Cond.code ({ cls := "WordTongueModel", name := "getVector", desc := "(I)I" } : Jvm.MethodName) prog_20_method_118_code (8 : Nat) (Option.some Jvm.ClassFile.FieldType.int)) ∈ lw_all := lw_g (lw_at lw_m17 128 rfl) rfl
theorem q4223 : (Jvm.Cond.methodLink "WordTongueModel" (846 : Nat) ({ cls := "WordTongueModel", name := "layVector", desc := "(IJJI)I" } : Jvm.MethodName)) ∈ lw_all := lw_g (lw_at lw_m17 129 rfl) rfl
theorem q4224 : (Jvm.Cond.privateMethod ({ cls := "WordTongueModel", name := "layVector", desc := "(IJJI)I" } : Jvm.MethodName)) ∈ lw_tbl := lw_at lw_m17 130 rfl
theorem q4225 : (Jvm.Cond.instanceMethod ({ cls := "WordTongueModel", name := "layVector", desc := "(IJJI)I" } : Jvm.MethodName)) ∈ lw_all := lw_g (lw_at lw_m17 131 rfl) rfl
theorem q4226 : (Jvm.Cond.code ({ cls := "WordTongueModel", name := "layVector", desc := "(IJJI)I" } : Jvm.MethodName) prog_20_method_119_code (8 : Nat) (Option.some Jvm.ClassFile.FieldType.int)) ∈ lw_all := lw_g (lw_at lw_m17 132 rfl) rfl
theorem q4227 : (Jvm.Cond.methodLink "WordTongueModel" (862 : Nat) ({ cls := "WordTongueModel", name := "freeVector", desc := "(I)V" } : Jvm.MethodName)) ∈ lw_all := lw_g (lw_at lw_m17 133 rfl) rfl
theorem q4228 : (Jvm.Cond.privateMethod ({ cls := "WordTongueModel", name := "freeVector", desc := "(I)V" } : Jvm.MethodName)) ∈ lw_tbl := lw_at lw_m17 134 rfl
theorem q4229 : (Jvm.Cond.instanceMethod ({ cls := "WordTongueModel", name := "freeVector", desc := "(I)V" } : Jvm.MethodName)) ∈ lw_all := lw_g (lw_at lw_m17 135 rfl) rfl
theorem q4230 : (Jvm.Cond.code ({ cls := "WordTongueModel", name := "freeVector", desc := "(I)V" } : Jvm.MethodName) prog_20_method_120_code (3 : Nat) (Option.none : Option Jvm.ClassFile.FieldType)) ∈ lw_all := lw_g (lw_at lw_m17 136 rfl) rfl
theorem q4231 : (Jvm.Cond.methodLink "WordTongueModel" (865 : Nat) ({ cls := "WordTongueModel", name := "readNumber", desc := "()I" } : Jvm.MethodName)) ∈ lw_all := lw_g (lw_at lw_m17 137 rfl) rfl
theorem q4232 : (Jvm.Cond.privateMethod ({ cls := "WordTongueModel", name := "readNumber", desc := "()I" } : Jvm.MethodName)) ∈ lw_tbl := lw_at lw_m17 138 rfl
theorem q4233 : (Jvm.Cond.instanceMethod ({ cls := "WordTongueModel", name := "readNumber", desc := "()I" } : Jvm.MethodName)) ∈ lw_all := lw_g (lw_at lw_m17 139 rfl) rfl
theorem q4234 : (Jvm.Cond.code ({ cls := "WordTongueModel", name := "readNumber", desc := "()I" } : Jvm.MethodName) prog_20_method_114_code (5 : Nat) (Option.some Jvm.ClassFile.FieldType.int)) ∈ lw_all := lw_g (lw_at lw_m17 140 rfl) rfl
theorem q4235 : (Jvm.Cond.methodLink "WordTongueModel" (837 : Nat) ({ cls := "WordTongueModel", name := "peek", desc := "()I" } : Jvm.MethodName)) ∈ lw_all := lw_g (lw_at lw_m17 141 rfl) rfl
theorem q4236 : (Jvm.Cond.privateMethod ({ cls := "WordTongueModel", name := "peek", desc := "()I" } : Jvm.MethodName)) ∈ lw_tbl := lw_at lw_m17 142 rfl
theorem q4237 : (Jvm.Cond.instanceMethod ({ cls := "WordTongueModel", name := "peek", desc := "()I" } : Jvm.MethodName)) ∈ lw_all := lw_g (lw_at lw_m17 143 rfl) rfl
theorem q4238 : (Jvm.Cond.code ({ cls := "WordTongueModel", name := "peek", desc := "()I" } : Jvm.MethodName) prog_20_method_113_code (2 : Nat) (Option.some Jvm.ClassFile.FieldType.int)) ∈ lw_all := lw_g (lw_at lw_m17 144 rfl) rfl
theorem q4239 : (Jvm.Cond.methodLink "WordTongueModel" (868 : Nat) ({ cls := "WordTongueModel", name := "toVector", desc := "(III)V" } : Jvm.MethodName)) ∈ lw_all := lw_g (lw_at lw_m17 145 rfl) rfl
theorem q4240 : (Jvm.Cond.privateMethod ({ cls := "WordTongueModel", name := "toVector", desc := "(III)V" } : Jvm.MethodName)) ∈ lw_tbl := lw_at lw_m17 146 rfl
theorem q4241 : (Jvm.Cond.instanceMethod ({ cls := "WordTongueModel", name := "toVector", desc := "(III)V" } : Jvm.MethodName)) ∈ lw_all := lw_g (lw_at lw_m17 147 rfl) rfl
theorem q4242 : (Jvm.Cond.code ({ cls := "WordTongueModel", name := "toVector", desc := "(III)V" } : Jvm.MethodName) prog_20_method_121_code (5 : Nat) (Option.none : Option Jvm.ClassFile.FieldType)) ∈ lw_all := lw_g (lw_at lw_m17 148 rfl) rfl
theorem q4243 : (Jvm.Cond.methodLink "WordTongueModel" (893 : Nat) ({ cls := "WordTongueModel", name := "perform", desc := "(I)V" } : Jvm.MethodName)) ∈ lw_all := lw_g (lw_at lw_m17 149 rfl) rfl
theorem q4244 : (Jvm.Cond.privateMethod ({ cls := "WordTongueModel", name := "perform", desc := "(I)V" } : Jvm.MethodName)) ∈ lw_tbl := lw_at lw_m17 150 rfl
theorem q4245 : (Jvm.Cond.instanceMethod ({ cls := "WordTongueModel", name := "perform", desc := "(I)V" } : Jvm.MethodName)) ∈ lw_all := lw_g (lw_at lw_m17 151 rfl) rfl
theorem q4246 : (Jvm.Cond.code ({ cls := "WordTongueModel", name := "perform", desc := "(I)V" } : Jvm.MethodName) prog_20_method_123_code (5 : Nat) (Option.none : Option Jvm.ClassFile.FieldType)) ∈ lw_all := lw_g (lw_at lw_m17 152 rfl) rfl
theorem q4247 : (Jvm.Cond.methodLink "WordTongueModel" (871 : Nat) ({ cls := "WordTongueModel", name := "assign", desc := "(II)V" } : Jvm.MethodName)) ∈ lw_all := lw_g (lw_at lw_m17 153 rfl) rfl
theorem q4248 : (Jvm.Cond.privateMethod ({ cls := "WordTongueModel", name := "assign", desc := "(II)V" } : Jvm.MethodName)) ∈ lw_tbl := lw_at lw_m17 154 rfl
theorem q4249 : (Jvm.Cond.instanceMethod ({ cls := "WordTongueModel", name := "assign", desc := "(II)V" } : Jvm.MethodName)) ∈ lw_all := lw_g (lw_at lw_m17 155 rfl) rfl
theorem q4250 : (Jvm.Cond.code ({ cls := "WordTongueModel", name := "assign", desc := "(II)V" } : Jvm.MethodName) prog_20_method_124_code (3 : Nat) (Option.none : Option Jvm.ClassFile.FieldType)) ∈ lw_all := lw_g (lw_at lw_m17 156 rfl) rfl
theorem q4251 : (Jvm.Cond.methodLink "WordTongueModel" (896 : Nat) ({ cls := "WordTongueModel", name := "stores", desc := "(I)V" } : Jvm.MethodName)) ∈ lw_all := lw_g (lw_at lw_m17 157 rfl) rfl
theorem q4252 : (Jvm.Cond.privateMethod ({ cls := "WordTongueModel", name := "stores", desc := "(I)V" } : Jvm.MethodName)) ∈ lw_tbl := lw_at lw_m17 158 rfl
theorem q4253 : (Jvm.Cond.instanceMethod ({ cls := "WordTongueModel", name := "stores", desc := "(I)V" } : Jvm.MethodName)) ∈ lw_all := lw_g (lw_at lw_m17 159 rfl) rfl
theorem q4254 : (Jvm.Cond.code ({ cls := "WordTongueModel", name := "stores", desc := "(I)V" } : Jvm.MethodName) prog_20_method_125_code (8 : Nat) (Option.none : Option Jvm.ClassFile.FieldType)) ∈ lw_all := lw_g (lw_at lw_m17 160 rfl) rfl
theorem q4255 : (Jvm.Cond.methodLink "WordTongueModel" (874 : Nat) ({ cls := "WordTongueModel", name := "write", desc := "(JI)V" } : Jvm.MethodName)) ∈ lw_all := lw_g (lw_at lw_m17 161 rfl) rfl
theorem q4256 : (Jvm.Cond.privateMethod ({ cls := "WordTongueModel", name := "write", desc := "(JI)V" } : Jvm.MethodName)) ∈ lw_tbl := lw_at lw_m17 162 rfl
theorem q4257 : (Jvm.Cond.instanceMethod ({ cls := "WordTongueModel", name := "write", desc := "(JI)V" } : Jvm.MethodName)) ∈ lw_all := lw_g (lw_at lw_m17 163 rfl) rfl
theorem q4258 : (Jvm.Cond.code ({ cls := "WordTongueModel", name := "write", desc := "(JI)V" } : Jvm.MethodName) prog_20_method_99_code (4 : Nat) (Option.none : Option Jvm.ClassFile.FieldType)) ∈ lw_all := lw_g (lw_at lw_m17 164 rfl) rfl
theorem q4259 : (Jvm.Cond.methodLink "WordTongueModel" (899 : Nat) ({ cls := "WordTongueModel", name := "loop", desc := "(II)V" } : Jvm.MethodName)) ∈ lw_all := lw_g (lw_at lw_m17 165 rfl) rfl
theorem q4260 : (Jvm.Cond.privateMethod ({ cls := "WordTongueModel", name := "loop", desc := "(II)V" } : Jvm.MethodName)) ∈ lw_tbl := lw_at lw_m17 166 rfl
theorem q4261 : (Jvm.Cond.instanceMethod ({ cls := "WordTongueModel", name := "loop", desc := "(II)V" } : Jvm.MethodName)) ∈ lw_all := lw_g (lw_at lw_m17 167 rfl) rfl
theorem q4262 : (Jvm.Cond.code ({ cls := "WordTongueModel", name := "loop", desc := "(II)V" } : Jvm.MethodName) prog_20_method_126_code (7 : Nat) (Option.none : Option Jvm.ClassFile.FieldType)) ∈ lw_all := lw_g (lw_at lw_m17 168 rfl) rfl
theorem q4263 : (Jvm.Cond.methodLink "WordTongueModel" (878 : Nat) ({ cls := "WordTongueModel", name := "isStep", desc := "(III)Z" } : Jvm.MethodName)) ∈ lw_all := lw_g (lw_at lw_m17 169 rfl) rfl
theorem q4264 : (Jvm.Cond.privateMethod ({ cls := "WordTongueModel", name := "isStep", desc := "(III)Z" } : Jvm.MethodName)) ∈ lw_tbl := lw_at lw_m17 170 rfl
theorem q4265 : (Jvm.Cond.instanceMethod ({ cls := "WordTongueModel", name := "isStep", desc := "(III)Z" } : Jvm.MethodName)) ∈ lw_all := lw_g (lw_at lw_m17 171 rfl) rfl
theorem q4266 : (Jvm.Cond.code ({ cls := "WordTongueModel", name := "isStep", desc := "(III)Z" } : Jvm.MethodName) prog_20_method_127_code (4 : Nat) (Option.some Jvm.ClassFile.FieldType.boolean)) ∈ lw_all := lw_g (lw_at lw_m17 172 rfl) rfl
theorem q4267 : (Jvm.Cond.methodLink "WordTongueModel" (902 : Nat) ({ cls := "WordTongueModel", name := "asked", desc := "(I)V" } : Jvm.MethodName)) ∈ lw_all := lw_g (lw_at lw_m17 173 rfl) rfl
theorem q4268 : (Jvm.Cond.privateMethod ({ cls := "WordTongueModel", name := "asked", desc := "(I)V" } : Jvm.MethodName)) ∈ lw_tbl := lw_at lw_m17 174 rfl
theorem q4269 : (Jvm.Cond.instanceMethod ({ cls := "WordTongueModel", name := "asked", desc := "(I)V" } : Jvm.MethodName)) ∈ lw_all := lw_g (lw_at lw_m17 175 rfl) rfl
theorem q4270 : (Jvm.Cond.code ({ cls := "WordTongueModel", name := "asked", desc := "(I)V" } : Jvm.MethodName) prog_20_method_128_code (4 : Nat) (Option.none : Option Jvm.ClassFile.FieldType)) ∈ lw_all := lw_g (lw_at lw_m17 176 rfl) rfl
theorem q4271 : (Jvm.Cond.methodLink "WordTongueModel" (905 : Nat) ({ cls := "WordTongueModel", name := "section", desc := "(II)V" } : Jvm.MethodName)) ∈ lw_all := lw_g (lw_at lw_m17 177 rfl) rfl
theorem q4272 : (Jvm.Cond.privateMethod ({ cls := "WordTongueModel", name := "section", desc := "(II)V" } : Jvm.MethodName)) ∈ lw_tbl := lw_at lw_m17 178 rfl
theorem q4273 : (Jvm.Cond.instanceMethod ({ cls := "WordTongueModel", name := "section", desc := "(II)V" } : Jvm.MethodName)) ∈ lw_all := lw_g (lw_at lw_m17 179 rfl) rfl
theorem q4274 : (Jvm.Cond.code ({ cls := "WordTongueModel", name := "section", desc := "(II)V" } : Jvm.MethodName) prog_20_method_129_code (6 : Nat) (Option.none : Option Jvm.ClassFile.FieldType)) ∈ lw_all := lw_g (lw_at lw_m17 180 rfl) rfl
theorem q4275 : (Jvm.Cond.methodLink "WordTongueModel" (908 : Nat) ({ cls := "WordTongueModel", name := "returns", desc := "(II)V" } : Jvm.MethodName)) ∈ lw_all := lw_g (lw_at lw_m17 181 rfl) rfl
theorem q4276 : (Jvm.Cond.privateMethod ({ cls := "WordTongueModel", name := "returns", desc := "(II)V" } : Jvm.MethodName)) ∈ lw_tbl := lw_at lw_m17 182 rfl
theorem q4277 : (Jvm.Cond.instanceMethod ({ cls := "WordTongueModel", name := "returns", desc := "(II)V" } : Jvm.MethodName)) ∈ lw_all := lw_g (lw_at lw_m17 183 rfl) rfl
theorem q4278 : (Jvm.Cond.code ({ cls := "WordTongueModel", name := "returns", desc := "(II)V" } : Jvm.MethodName) prog_20_method_133_code (4 : Nat) (Option.none : Option Jvm.ClassFile.FieldType)) ∈ lw_all := lw_g (lw_at lw_m17 184 rfl) rfl
theorem q4279 : (Jvm.Cond.methodLink "WordTongueModel" (911 : Nat) ({ cls := "WordTongueModel", name := "variables", desc := "(I)V" } : Jvm.MethodName)) ∈ lw_all := lw_g (lw_at lw_m17 185 rfl) rfl
theorem q4280 : (Jvm.Cond.privateMethod ({ cls := "WordTongueModel", name := "variables", desc := "(I)V" } : Jvm.MethodName)) ∈ lw_tbl := lw_at lw_m17 186 rfl
theorem q4281 : (Jvm.Cond.instanceMethod ({ cls := "WordTongueModel", name := "variables", desc := "(I)V" } : Jvm.MethodName)) ∈ lw_all := lw_g (lw_at lw_m17 187 rfl) rfl
theorem q4282 : (Jvm.Cond.code ({ cls := "WordTongueModel", name := "variables", desc := "(I)V" } : Jvm.MethodName) prog_20_method_130_code (7 : Nat) (Option.none : Option Jvm.ClassFile.FieldType)) ∈ lw_all := lw_g (lw_at lw_m17 188 rfl) rfl
theorem q4283 : (Jvm.Cond.methodLink "WordTongueModel" (914 : Nat) ({ cls := "WordTongueModel", name := "choose", desc := "(I)V" } : Jvm.MethodName)) ∈ lw_all := lw_g (lw_at lw_m17 189 rfl) rfl
theorem q4284 : (Jvm.Cond.privateMethod ({ cls := "WordTongueModel", name := "choose", desc := "(I)V" } : Jvm.MethodName)) ∈ lw_tbl := lw_at lw_m17 190 rfl
theorem q4285 : (Jvm.Cond.instanceMethod ({ cls := "WordTongueModel", name := "choose", desc := "(I)V" } : Jvm.MethodName)) ∈ lw_all := lw_g (lw_at lw_m17 191 rfl) rfl
theorem q4286 : (Jvm.Cond.code ({ cls := "WordTongueModel", name := "choose", desc := "(I)V" } : Jvm.MethodName) prog_20_method_131_code (7 : Nat) (Option.none : Option Jvm.ClassFile.FieldType)) ∈ lw_all := lw_g (lw_at lw_m17 192 rfl) rfl
theorem q4288 : (Jvm.Cond.instanceMethod ({ cls := "WordTongueModel", name := "value", desc := "()I" } : Jvm.MethodName)) ∈ lw_all := lw_g (lw_at lw_m17 194 rfl) rfl
theorem q4289 : (Jvm.Cond.selects "WordTongueModel" ({ cls := "WordTongueModel", name := "value", desc := "()I" } : Jvm.MethodName) ({ cls := "WordTongueModel", name := "value", desc := "()I" } : Jvm.MethodName)) ∈ lw_all := lw_g (lw_at lw_m17 195 rfl) rfl
theorem q4290 : (Jvm.Cond.code ({ cls := "WordTongueModel", name := "value", desc := "()I" } : Jvm.MethodName) prog_20_method_141_code (1 : Nat) (Option.some Jvm.ClassFile.FieldType.int)) ∈ lw_all := lw_g (lw_at lw_m17 196 rfl) rfl
theorem q4292 : (Jvm.Cond.instanceMethod ({ cls := "WordTongueModel", name := "out", desc := "(I)I" } : Jvm.MethodName)) ∈ lw_all := lw_g (lw_at lw_m17 198 rfl) rfl
theorem q4293 : (Jvm.Cond.selects "WordTongueModel" ({ cls := "WordTongueModel", name := "out", desc := "(I)I" } : Jvm.MethodName) ({ cls := "WordTongueModel", name := "out", desc := "(I)I" } : Jvm.MethodName)) ∈ lw_all := lw_g (lw_at lw_m17 199 rfl) rfl
theorem q4294 : (Jvm.Cond.code ({ cls := "WordTongueModel", name := "out", desc := "(I)I" } : Jvm.MethodName) prog_20_method_142_code (2 : Nat) (Option.some Jvm.ClassFile.FieldType.int)) ∈ lw_all := lw_g (lw_at lw_m17 200 rfl) rfl
theorem q4296 : (Jvm.Cond.instanceMethod ({ cls := "WordTongueModel", name := "outAt", desc := "(II)I" } : Jvm.MethodName)) ∈ lw_all := lw_g (lw_at lw_m17 202 rfl) rfl
theorem q4297 : (Jvm.Cond.selects "WordTongueModel" ({ cls := "WordTongueModel", name := "outAt", desc := "(II)I" } : Jvm.MethodName) ({ cls := "WordTongueModel", name := "outAt", desc := "(II)I" } : Jvm.MethodName)) ∈ lw_all := lw_g (lw_at lw_m17 203 rfl) rfl
theorem q4298 : (Jvm.Cond.code ({ cls := "WordTongueModel", name := "outAt", desc := "(II)I" } : Jvm.MethodName) prog_20_method_143_code (3 : Nat) (Option.some Jvm.ClassFile.FieldType.int)) ∈ lw_all := lw_g (lw_at lw_m17 204 rfl) rfl
theorem q4300 : (Jvm.Cond.instanceMethod ({ cls := "WordTongueModel", name := "word", desc := "(I)I" } : Jvm.MethodName)) ∈ lw_all := lw_g (lw_at lw_m17 206 rfl) rfl
theorem q4301 : (Jvm.Cond.selects "WordTongueModel" ({ cls := "WordTongueModel", name := "word", desc := "(I)I" } : Jvm.MethodName) ({ cls := "WordTongueModel", name := "word", desc := "(I)I" } : Jvm.MethodName)) ∈ lw_all := lw_g (lw_at lw_m17 207 rfl) rfl
theorem q4302 : (Jvm.Cond.code ({ cls := "WordTongueModel", name := "word", desc := "(I)I" } : Jvm.MethodName) prog_20_method_144_code (2 : Nat) (Option.some Jvm.ClassFile.FieldType.int)) ∈ lw_all := lw_g (lw_at lw_m17 208 rfl) rfl
theorem q4304 : (Jvm.Cond.instanceMethod ({ cls := "WordTongueModel", name := "fuel", desc := "()I" } : Jvm.MethodName)) ∈ lw_all := lw_g (lw_at lw_m17 210 rfl) rfl
theorem q4305 : (Jvm.Cond.selects "WordTongueModel" ({ cls := "WordTongueModel", name := "fuel", desc := "()I" } : Jvm.MethodName) ({ cls := "WordTongueModel", name := "fuel", desc := "()I" } : Jvm.MethodName)) ∈ lw_all := lw_g (lw_at lw_m17 211 rfl) rfl
theorem q4306 : (Jvm.Cond.code ({ cls := "WordTongueModel", name := "fuel", desc := "()I" } : Jvm.MethodName) prog_20_method_145_code (1 : Nat) (Option.some Jvm.ClassFile.FieldType.int)) ∈ lw_all := lw_g (lw_at lw_m17 212 rfl) rfl
theorem q4341 : (Jvm.Cond.castable "WordTongueModel" "java/lang/Object") ∈ lw_tbl := lw_at lw_m18 7 rfl
theorem in_X8 : ∀ w ∈ wsX80, w ∈ lw_all := lw_in wsX80 [3435, 3437, 3439, 3441, 3443, 3445, 3447, 3449, 3451, 3453, 3455, 3457, 3459, 3461, 3463, 3465, 3467, 3469, 3471, 3473, 3475, 3477, 3479, 3481, 3483, 3485, 3487, 3489, 3491, 3493, 3495, 3497, 3499, 3501, 3503, 3505, 3507, 3509, 3511, 3513, 3515, 3517, 3519, 3521, 3523, 3525, 3527, 3529, 3531, 3533, 3535, 3537, 3539, 3541, 3543, 3545, 3547, 3549, 3551, 3553, 3555, 3557, 3559, 3561, 3563, 3565, 3567, 3569, 3571, 3573, 3575, 3577, 3579, 3581, 3583, 3585, 3587, 3589, 3591, 3593, 3595, 3597, 3599, 3601, 3603, 3605, 3607, 3609, 3611, 3613, 3615, 3617, 3619, 3621, 3623, 3625, 3627, 3629, 3631, 3633, 3635, 3637, 3639, 3641, 3643, 3645, 3647, 3649, 3651, 3653, 3655, 3657, 3659, 3661, 3663, 3665, 3667, 3669, 3671] (by decide +kernel) (by decide +kernel)
/-! WordTongue$Translator -/
set_option maxRecDepth 100000
def RX9 : String := "WordTongue$Translator"
def TX9 : u_T := fun k => match k with
  | 0 => ("WordTongue$Translator", "scopes", "Ljava/util/List;", true)
  | 1 => ("WordTongue$Translator", "routines", "Ljava/util/List;", true)
  | 2 => ("WordTongue$Translator", "data", "[I", true)
  | 3 => ("WordTongue$Translator", "words", "I", false)
  | 4 => ("WordTongue$Translator", "place", "I", false)
  | 5 => ("WordTongue$Translator", "fault", "I", false)
  | 6 => ("WordTongue$Translator", "start", "I", false)
  | 7 => ("WordTongue$Translator", "entries", "[I", true)
  | 8 => ("WordTongue$Translator", "\x72", "LWordTongue$Routine;", false)
  | 9 => ("WordTongue$Translator", "breaks", "Ljava/util/List;", false)
  | 10 => ("WordTongue$Translator", "loops", "Ljava/util/List;", false)
  | 11 => ("WordTongue$Translator", "cases", "Ljava/util/List;", false)
  | 12 => ("WordTongue$Translator", "results", "Ljava/util/List;", false)
  | 13 => ("WordTongue$Translator", "divides", "Z", false)
  | 14 => ("WordTongue$Translator", "hasValue", "Z", false)
  | _ => ("WordTongue$Translator", "around", "Ljava/util/List;", true)
def tyX9 : Nat → FieldType := fun k => match k with
  | 0 => .object "java/util/List"
  | 1 => .object "java/util/List"
  | 2 => .array .int
  | 3 => .int
  | 4 => .int
  | 5 => .int
  | 6 => .int
  | 7 => .array .int
  | 8 => .object "WordTongue$Routine"
  | 9 => .object "java/util/List"
  | 10 => .object "java/util/List"
  | 11 => .object "java/util/List"
  | 12 => .object "java/util/List"
  | 13 => .boolean
  | 14 => .boolean
  | _ => .object "java/util/List"
abbrev wsX90 : List Cond := u_ws RX9 TX9 16
set_option maxRecDepth 100000 in
theorem nmX9 : ∀ a, a < 16 → ∀ b, b < 16 → a ≠ b → (TX9 a).2.1 ≠ (TX9 b).2.1 := by decide +kernel
set_option maxRecDepth 100000 in
theorem tyX9_ok : ∀ k, k < 16 → parseFieldDescriptor (TX9 k).2.2.1 = some (tyX9 k) := by decide +kernel
abbrev cX9_init : ByteArray := prog_18_method_1_code
def yX9_init : MethodName := ⟨RX9, "<init>", "([I[ILjava/util/Map;)V"⟩
abbrev cX9_text : ByteArray := prog_18_method_14_code
def yX9_text : MethodName := ⟨RX9, "text", "(Ljava/util/List;Ljava/util/List;)V"⟩
abbrev cX9_lay : ByteArray := prog_18_method_9_code
def yX9_lay : MethodName := ⟨RX9, "lay", "(Ljava/util/List;)V"⟩
abbrev cX9_open : ByteArray := prog_18_method_3_code
def yX9_open : MethodName := ⟨RX9, "open", "()V"⟩
abbrev cX9_declaration : ByteArray := prog_18_method_15_code
def yX9_declaration : MethodName := ⟨RX9, "declaration", "(LWordTongue$Node;)V"⟩
abbrev cX9_routinesOf : ByteArray := prog_18_method_17_code
def yX9_routinesOf : MethodName := ⟨RX9, "routinesOf", "(LWordTongue$Node;)V"⟩
abbrev cX9_declare : ByteArray := prog_18_method_5_code
def yX9_declare : MethodName := ⟨RX9, "declare", "(Ljava/lang/String;ILWordTongue$Meaning;)V"⟩
abbrev cX9_wrong : ByteArray := prog_18_method_2_code
def yX9_wrong : MethodName := ⟨RX9, "wrong", "(II)V"⟩
abbrev cX9_routine : ByteArray := prog_18_method_18_code
def yX9_routine : MethodName := ⟨RX9, "routine", "(LWordTongue$Listed;)V"⟩
abbrev cX9_local : ByteArray := prog_18_method_8_code
def yX9_local : MethodName := ⟨RX9, "local", "()LWordTongue$Meaning;"⟩
abbrev cX9_value : ByteArray := prog_18_method_20_code
def yX9_value : MethodName := ⟨RX9, "value", "(LWordTongue$Node;)V"⟩
abbrev cX9_meaning : ByteArray := prog_18_method_7_code
def yX9_meaning : MethodName := ⟨RX9, "meaning", "(LWordTongue$Node;)LWordTongue$Meaning;"⟩
abbrev cX9_find : ByteArray := prog_18_method_6_code
def yX9_find : MethodName := ⟨RX9, "find", "(Ljava/lang/String;)LWordTongue$Meaning;"⟩
abbrev cX9_word : ByteArray := prog_18_method_25_code
def yX9_word : MethodName := ⟨RX9, "word", "(LWordTongue$Node;)V"⟩
abbrev cX9_address : ByteArray := prog_18_method_26_code
def yX9_address : MethodName := ⟨RX9, "address", "(LWordTongue$Node;)V"⟩
abbrev cX9_noPlace : ByteArray := prog_18_method_27_code
def yX9_noPlace : MethodName := ⟨RX9, "noPlace", "(LWordTongue$Node;)V"⟩
abbrev cX9_binary : ByteArray := prog_18_method_21_code
def yX9_binary : MethodName := ⟨RX9, "binary", "(LWordTongue$Node;)V"⟩
abbrev cX9_compare : ByteArray := prog_18_method_22_code
def yX9_compare : MethodName := ⟨RX9, "compare", "(LWordTongue$Listed;)V"⟩
abbrev cX9_worked : ByteArray := prog_18_method_13_code
def yX9_worked : MethodName := ⟨RX9, "worked", "(LWordTongue$Node;)I"⟩
abbrev cX9_isConstant : ByteArray := prog_18_method_11_code
def yX9_isConstant : MethodName := ⟨RX9, "isConstant", "(LWordTongue$Node;)Z"⟩
abbrev cX9_constant : ByteArray := prog_18_method_12_code
def yX9_constant : MethodName := ⟨RX9, "constant", "(LWordTongue$Node;)I"⟩
abbrev cX9_put : ByteArray := prog_18_method_10_code
def yX9_put : MethodName := ⟨RX9, "put", "(II)V"⟩
abbrev cX9_valof : ByteArray := prog_18_method_23_code
def yX9_valof : MethodName := ⟨RX9, "valof", "(LWordTongue$Node;)V"⟩
abbrev cX9_command : ByteArray := prog_18_method_29_code
def yX9_command : MethodName := ⟨RX9, "command", "(LWordTongue$Node;)V"⟩
abbrev cX9_assign : ByteArray := prog_18_method_28_code
def yX9_assign : MethodName := ⟨RX9, "assign", "(LWordTongue$Node;LWordTongue$Node;)V"⟩
abbrev cX9_branches : ByteArray := prog_18_method_34_code
def yX9_branches : MethodName := ⟨RX9, "branches", "(LWordTongue$Node;)V"⟩
abbrev cX9_asks : ByteArray := prog_18_method_37_code
def yX9_asks : MethodName := ⟨RX9, "asks", "(LWordTongue$Node;)V"⟩
abbrev cX9_enterLoop : ByteArray := prog_18_method_35_code
def yX9_enterLoop : MethodName := ⟨RX9, "enterLoop", "()V"⟩
abbrev cX9_landAll : ByteArray := prog_18_method_24_code
def yX9_landAll : MethodName := ⟨RX9, "landAll", "(Ljava/util/List;)V"⟩
abbrev cX9_leaveLoop : ByteArray := prog_18_method_36_code
def yX9_leaveLoop : MethodName := ⟨RX9, "leaveLoop", "()V"⟩
abbrev cX9_repeats : ByteArray := prog_18_method_38_code
def yX9_repeats : MethodName := ⟨RX9, "repeats", "(LWordTongue$Node;)V"⟩
abbrev cX9_counts : ByteArray := prog_18_method_39_code
def yX9_counts : MethodName := ⟨RX9, "counts", "(LWordTongue$Node;)V"⟩
abbrev cX9_close : ByteArray := prog_18_method_4_code
def yX9_close : MethodName := ⟨RX9, "close", "()V"⟩
abbrev cX9_chooses : ByteArray := prog_18_method_40_code
def yX9_chooses : MethodName := ⟨RX9, "chooses", "(LWordTongue$Node;)V"⟩
abbrev cX9_labels : ByteArray := prog_18_method_32_code
def yX9_labels : MethodName := ⟨RX9, "labels", "(LWordTongue$Node;)V"⟩
abbrev cX9_goes : ByteArray := prog_18_method_30_code
def yX9_goes : MethodName := ⟨RX9, "goes", "(Ljava/util/List;LWordTongue$Node;)V"⟩
abbrev cX9_jump : ByteArray := prog_18_method_31_code
def yX9_jump : MethodName := ⟨RX9, "jump", "(LWordTongue$Node;)V"⟩
abbrev cX9_block : ByteArray := prog_18_method_33_code
def yX9_block : MethodName := ⟨RX9, "block", "(LWordTongue$Node;)V"⟩
abbrev cX9_variables : ByteArray := prog_18_method_19_code
def yX9_variables : MethodName := ⟨RX9, "variables", "(LWordTongue$Listed;)V"⟩
abbrev cX9_constants : ByteArray := prog_18_method_16_code
def yX9_constants : MethodName := ⟨RX9, "constants", "(LWordTongue$Node;)V"⟩
theorem q283 : (Jvm.Cond.initialized "WordTongue$Translator") ∈ lw_all := lw_g (lw_at lw_m1 29 rfl) rfl
theorem q631 : (Jvm.Cond.fieldLink "WordTongue$Translator" (97 : Nat) "WordTongue$Meaning" "sort" "LWordTongue$Sort;") ∈ lw_all := lw_g (lw_at lw_m2 137 rfl) rfl
theorem q633 : (Jvm.Cond.fieldLink "WordTongue$Translator" (196 : Nat) "WordTongue$Meaning" "value" "I") ∈ lw_all := lw_g (lw_at lw_m2 139 rfl) rfl
theorem q635 : (Jvm.Cond.fieldLink "WordTongue$Translator" (175 : Nat) "WordTongue$Meaning" "known" "Z") ∈ lw_all := lw_g (lw_at lw_m2 141 rfl) rfl
theorem q636 : (Jvm.Cond.fieldLink "WordTongue$Translator" (279 : Nat) "WordTongue$Meaning" "taken" "Z") ∈ lw_all := lw_g (lw_at lw_m2 142 rfl) rfl
theorem q637 : (Jvm.Cond.fieldLink "WordTongue$Translator" (260 : Nat) "WordTongue$Meaning" "isGlobal" "Z") ∈ lw_all := lw_g (lw_at lw_m2 143 rfl) rfl
theorem q638 : (Jvm.Cond.fieldLink "WordTongue$Translator" (69 : Nat) "WordTongue$Meaning" "place" "I") ∈ lw_all := lw_g (lw_at lw_m2 144 rfl) rfl
theorem q639 : (Jvm.Cond.fieldLink "WordTongue$Translator" (106 : Nat) "WordTongue$Meaning" "owner" "LWordTongue$Routine;") ∈ lw_all := lw_g (lw_at lw_m2 145 rfl) rfl
theorem q640 : (Jvm.Cond.fieldLink "WordTongue$Translator" (441 : Nat) "WordTongue$Meaning" "within" "Ljava/util/List;") ∈ lw_all := lw_g (lw_at lw_m2 146 rfl) rfl
theorem q697 : (Jvm.Cond.selects "WordTongue$Translator" ({ cls := "java/lang/Object", name := "hashCode", desc := "()I" } : Jvm.MethodName) ({ cls := "java/lang/Object", name := "hashCode", desc := "()I" } : Jvm.MethodName)) ∈ lw_all := lw_g (lw_at lw_m2 203 rfl) rfl
theorem q842 : (Jvm.Cond.selects "WordTongue$Translator" ({ cls := "java/lang/Object", name := "getClass", desc := "()Ljava/lang/Class;" } : Jvm.MethodName) ({ cls := "java/lang/Object", name := "getClass", desc := "()Ljava/lang/Class;" } : Jvm.MethodName)) ∈ lw_all := lw_g (lw_at lw_m3 108 rfl) rfl
theorem q1128 : (Jvm.Cond.selects "WordTongue$Translator" ({ cls := "java/lang/Object", name := "equals", desc := "(Ljava/lang/Object;)Z" } : Jvm.MethodName) ({ cls := "java/lang/Object", name := "equals", desc := "(Ljava/lang/Object;)Z" } : Jvm.MethodName)) ∈ lw_all := lw_g (lw_at lw_m4 154 rfl) rfl
theorem q1392 : (Jvm.Cond.instantiable "WordTongue$Translator" (16 : Nat)) ∈ lw_all := lw_g (lw_at lw_m5 178 rfl) rfl
theorem q1394 : (Jvm.Cond.instanceMethod ({ cls := "WordTongue$Translator", name := "<init>", desc := "([I[ILjava/util/Map;)V" } : Jvm.MethodName)) ∈ lw_all := lw_g (lw_at lw_m5 180 rfl) rfl
theorem q1395 : (Jvm.Cond.code ({ cls := "WordTongue$Translator", name := "<init>", desc := "([I[ILjava/util/Map;)V" } : Jvm.MethodName) prog_18_method_1_code (4 : Nat) (Option.none : Option Jvm.ClassFile.FieldType)) ∈ lw_all := lw_g (lw_at lw_m5 181 rfl) rfl
theorem q1396 : (Jvm.Cond.methodLink "WordTongue$Translator" (3 : Nat) ({ cls := "java/lang/Object", name := "<init>", desc := "()V" } : Jvm.MethodName)) ∈ lw_all := lw_g (lw_at lw_m5 182 rfl) rfl
theorem q1397 : (Jvm.Cond.classLink "WordTongue$Translator" (9 : Nat) "java/util/ArrayList") ∈ lw_all := lw_g (lw_at lw_m5 183 rfl) rfl
theorem q1399 : (Jvm.Cond.methodLink "WordTongue$Translator" (11 : Nat) ({ cls := "java/util/ArrayList", name := "<init>", desc := "()V" } : Jvm.MethodName)) ∈ lw_all := lw_g (lw_at lw_m5 185 rfl) rfl
theorem q1423 : (Jvm.Cond.interfaceEntry "WordTongue$Translator" (38 : Nat)) ∈ lw_tbl := lw_at lw_m5 209 rfl
theorem q1424 : (Jvm.Cond.methodLink "WordTongue$Translator" (38 : Nat) ({ cls := "java/util/List", name := "add", desc := "(Ljava/lang/Object;)Z" } : Jvm.MethodName)) ∈ lw_all := lw_g (lw_at lw_m5 210 rfl) rfl
theorem q1467 : (Jvm.Cond.fieldLink "WordTongue$Translator" (12 : Nat) "WordTongue$Translator" "scopes" "Ljava/util/List;") ∈ lw_all := lw_g (lw_at lw_m6 13 rfl) rfl
theorem q1468 : (Jvm.Cond.fieldLink "WordTongue$Translator" (18 : Nat) "WordTongue$Translator" "routines" "Ljava/util/List;") ∈ lw_all := lw_g (lw_at lw_m6 14 rfl) rfl
theorem q1470 : (Jvm.Cond.fieldLink "WordTongue$Translator" (31 : Nat) "WordTongue$Translator" "data" "[I") ∈ lw_all := lw_g (lw_at lw_m6 16 rfl) rfl
theorem q1471 : (Jvm.Cond.fieldLink "WordTongue$Translator" (157 : Nat) "WordTongue$Translator" "words" "I") ∈ lw_all := lw_g (lw_at lw_m6 17 rfl) rfl
theorem q1473 : (Jvm.Cond.fieldLink "WordTongue$Translator" (21 : Nat) "WordTongue$Translator" "place" "I") ∈ lw_all := lw_g (lw_at lw_m6 19 rfl) rfl
theorem q1475 : (Jvm.Cond.fieldLink "WordTongue$Translator" (44 : Nat) "WordTongue$Translator" "fault" "I") ∈ lw_all := lw_g (lw_at lw_m6 21 rfl) rfl
theorem q1477 : (Jvm.Cond.fieldLink "WordTongue$Translator" (25 : Nat) "WordTongue$Translator" "start" "I") ∈ lw_all := lw_g (lw_at lw_m6 23 rfl) rfl
theorem q1479 : (Jvm.Cond.fieldLink "WordTongue$Translator" (35 : Nat) "WordTongue$Translator" "entries" "[I") ∈ lw_all := lw_g (lw_at lw_m6 25 rfl) rfl
theorem q1480 : (Jvm.Cond.fieldLink "WordTongue$Translator" (110 : Nat) "WordTongue$Translator" "\x72" "LWordTongue$Routine;") ∈ lw_all := lw_g (lw_at lw_m6 26 rfl) rfl
theorem q1481 : (Jvm.Cond.fieldLink "WordTongue$Translator" (295 : Nat) "WordTongue$Translator" "breaks" "Ljava/util/List;") ∈ lw_all := lw_g (lw_at lw_m6 27 rfl) rfl
theorem q1482 : (Jvm.Cond.fieldLink "WordTongue$Translator" (298 : Nat) "WordTongue$Translator" "loops" "Ljava/util/List;") ∈ lw_all := lw_g (lw_at lw_m6 28 rfl) rfl
theorem q1483 : (Jvm.Cond.fieldLink "WordTongue$Translator" (301 : Nat) "WordTongue$Translator" "cases" "Ljava/util/List;") ∈ lw_all := lw_g (lw_at lw_m6 29 rfl) rfl
theorem q1484 : (Jvm.Cond.fieldLink "WordTongue$Translator" (304 : Nat) "WordTongue$Translator" "results" "Ljava/util/List;") ∈ lw_all := lw_g (lw_at lw_m6 30 rfl) rfl
theorem q1485 : (Jvm.Cond.fieldLink "WordTongue$Translator" (201 : Nat) "WordTongue$Translator" "divides" "Z") ∈ lw_all := lw_g (lw_at lw_m6 31 rfl) rfl
theorem q1486 : (Jvm.Cond.fieldLink "WordTongue$Translator" (225 : Nat) "WordTongue$Translator" "hasValue" "Z") ∈ lw_all := lw_g (lw_at lw_m6 32 rfl) rfl
theorem q1487 : (Jvm.Cond.fieldLink "WordTongue$Translator" (28 : Nat) "WordTongue$Translator" "around" "Ljava/util/List;") ∈ lw_all := lw_g (lw_at lw_m6 33 rfl) rfl
theorem q1488 : (Jvm.Cond.laysFinal "WordTongue$Translator" "WordTongue$Translator" "scopes" "Ljava/util/List;") ∈ lw_all := lw_g (lw_at lw_m6 34 rfl) rfl
theorem q1489 : (Jvm.Cond.soleField "WordTongue$Translator" "scopes") ∈ lw_all := lw_g (lw_at lw_m6 35 rfl) rfl
theorem q1490 : (Jvm.Cond.laysFinal "WordTongue$Translator" "WordTongue$Translator" "routines" "Ljava/util/List;") ∈ lw_all := lw_g (lw_at lw_m6 36 rfl) rfl
theorem q1491 : (Jvm.Cond.soleField "WordTongue$Translator" "routines") ∈ lw_all := lw_g (lw_at lw_m6 37 rfl) rfl
theorem q1492 : (Jvm.Cond.laysFinal "WordTongue$Translator" "WordTongue$Translator" "data" "[I") ∈ lw_all := lw_g (lw_at lw_m6 38 rfl) rfl
theorem q1493 : (Jvm.Cond.soleField "WordTongue$Translator" "data") ∈ lw_all := lw_g (lw_at lw_m6 39 rfl) rfl
theorem q1494 : (Jvm.Cond.lays "WordTongue$Translator" "WordTongue$Translator" "words" "I") ∈ lw_all := lw_g (lw_at lw_m6 40 rfl) rfl
theorem q1495 : (Jvm.Cond.soleField "WordTongue$Translator" "words") ∈ lw_all := lw_g (lw_at lw_m6 41 rfl) rfl
theorem q1496 : (Jvm.Cond.lays "WordTongue$Translator" "WordTongue$Translator" "place" "I") ∈ lw_all := lw_g (lw_at lw_m6 42 rfl) rfl
theorem q1497 : (Jvm.Cond.soleField "WordTongue$Translator" "place") ∈ lw_all := lw_g (lw_at lw_m6 43 rfl) rfl
theorem q1498 : (Jvm.Cond.lays "WordTongue$Translator" "WordTongue$Translator" "fault" "I") ∈ lw_all := lw_g (lw_at lw_m6 44 rfl) rfl
theorem q1499 : (Jvm.Cond.soleField "WordTongue$Translator" "fault") ∈ lw_all := lw_g (lw_at lw_m6 45 rfl) rfl
theorem q1500 : (Jvm.Cond.lays "WordTongue$Translator" "WordTongue$Translator" "start" "I") ∈ lw_all := lw_g (lw_at lw_m6 46 rfl) rfl
theorem q1501 : (Jvm.Cond.soleField "WordTongue$Translator" "start") ∈ lw_all := lw_g (lw_at lw_m6 47 rfl) rfl
theorem q1502 : (Jvm.Cond.laysFinal "WordTongue$Translator" "WordTongue$Translator" "entries" "[I") ∈ lw_all := lw_g (lw_at lw_m6 48 rfl) rfl
theorem q1503 : (Jvm.Cond.soleField "WordTongue$Translator" "entries") ∈ lw_all := lw_g (lw_at lw_m6 49 rfl) rfl
theorem q1504 : (Jvm.Cond.lays "WordTongue$Translator" "WordTongue$Translator" "\x72" "LWordTongue$Routine;") ∈ lw_all := lw_g (lw_at lw_m6 50 rfl) rfl
theorem q1505 : (Jvm.Cond.soleField "WordTongue$Translator" "\x72") ∈ lw_all := lw_g (lw_at lw_m6 51 rfl) rfl
theorem q1506 : (Jvm.Cond.lays "WordTongue$Translator" "WordTongue$Translator" "breaks" "Ljava/util/List;") ∈ lw_all := lw_g (lw_at lw_m6 52 rfl) rfl
theorem q1507 : (Jvm.Cond.soleField "WordTongue$Translator" "breaks") ∈ lw_all := lw_g (lw_at lw_m6 53 rfl) rfl
theorem q1508 : (Jvm.Cond.lays "WordTongue$Translator" "WordTongue$Translator" "loops" "Ljava/util/List;") ∈ lw_all := lw_g (lw_at lw_m6 54 rfl) rfl
theorem q1509 : (Jvm.Cond.soleField "WordTongue$Translator" "loops") ∈ lw_all := lw_g (lw_at lw_m6 55 rfl) rfl
theorem q1510 : (Jvm.Cond.lays "WordTongue$Translator" "WordTongue$Translator" "cases" "Ljava/util/List;") ∈ lw_all := lw_g (lw_at lw_m6 56 rfl) rfl
theorem q1511 : (Jvm.Cond.soleField "WordTongue$Translator" "cases") ∈ lw_all := lw_g (lw_at lw_m6 57 rfl) rfl
theorem q1512 : (Jvm.Cond.lays "WordTongue$Translator" "WordTongue$Translator" "results" "Ljava/util/List;") ∈ lw_all := lw_g (lw_at lw_m6 58 rfl) rfl
theorem q1513 : (Jvm.Cond.soleField "WordTongue$Translator" "results") ∈ lw_all := lw_g (lw_at lw_m6 59 rfl) rfl
theorem q1514 : (Jvm.Cond.lays "WordTongue$Translator" "WordTongue$Translator" "divides" "Z") ∈ lw_all := lw_g (lw_at lw_m6 60 rfl) rfl
theorem q1515 : (Jvm.Cond.soleField "WordTongue$Translator" "divides") ∈ lw_all := lw_g (lw_at lw_m6 61 rfl) rfl
theorem q1516 : (Jvm.Cond.lays "WordTongue$Translator" "WordTongue$Translator" "hasValue" "Z") ∈ lw_all := lw_g (lw_at lw_m6 62 rfl) rfl
theorem q1517 : (Jvm.Cond.soleField "WordTongue$Translator" "hasValue") ∈ lw_all := lw_g (lw_at lw_m6 63 rfl) rfl
theorem q1518 : (Jvm.Cond.laysFinal "WordTongue$Translator" "WordTongue$Translator" "around" "Ljava/util/List;") ∈ lw_all := lw_g (lw_at lw_m6 64 rfl) rfl
theorem q1519 : (Jvm.Cond.soleField "WordTongue$Translator" "around") ∈ lw_all := lw_g (lw_at lw_m6 65 rfl) rfl
theorem q1520 : (Jvm.Cond.superclass "WordTongue$Translator" "java/lang/Object") ∈ lw_all := lw_g (lw_at lw_m6 66 rfl) rfl
theorem q1623 : (Jvm.Cond.fieldLink "WordTongue$Translator" (314 : Nat) "WordTongue$Token" "place" "I") ∈ lw_all := lw_g (lw_at lw_m6 169 rfl) rfl
theorem q1631 : (Jvm.Cond.fieldLink "WordTongue$Translator" (209 : Nat) "WordTongue$Token" "text" "Ljava/lang/String;") ∈ lw_all := lw_g (lw_at lw_m6 177 rfl) rfl
theorem q2108 : (Jvm.Cond.fieldLink "WordTongue$Translator" (125 : Nat) "WordTongue$Node" "kind" "LWordTongue$Kind;") ∈ lw_all := lw_g (lw_at lw_m8 174 rfl) rfl
theorem q2111 : (Jvm.Cond.fieldLink "WordTongue$Translator" (96 : Nat) "WordTongue$Node" "place" "I") ∈ lw_all := lw_g (lw_at lw_m8 177 rfl) rfl
theorem q2112 : (Jvm.Cond.fieldLink "WordTongue$Translator" (290 : Nat) "WordTongue$Listed" "place" "I") ∈ lw_all := lw_g (lw_at lw_m8 178 rfl) rfl
theorem q2115 : (Jvm.Cond.fieldLink "WordTongue$Translator" (275 : Nat) "WordTongue$Node" "from" "I") ∈ lw_all := lw_g (lw_at lw_m8 181 rfl) rfl
theorem q2121 : (Jvm.Cond.fieldLink "WordTongue$Translator" (86 : Nat) "WordTongue$Node" "text" "Ljava/lang/String;") ∈ lw_all := lw_g (lw_at lw_m8 187 rfl) rfl
theorem q2125 : (Jvm.Cond.fieldLink "WordTongue$Translator" (278 : Nat) "WordTongue$Listed" "text" "Ljava/lang/String;") ∈ lw_all := lw_g (lw_at lw_m8 191 rfl) rfl
theorem q2126 : (Jvm.Cond.fieldLink "WordTongue$Translator" (160 : Nat) "WordTongue$Node" "value" "I") ∈ lw_all := lw_g (lw_at lw_m8 192 rfl) rfl
theorem q2127 : (Jvm.Cond.fieldLink "WordTongue$Translator" (291 : Nat) "WordTongue$Listed" "value" "I") ∈ lw_all := lw_g (lw_at lw_m8 193 rfl) rfl
theorem q2131 : (Jvm.Cond.fieldLink "WordTongue$Translator" (178 : Nat) "WordTongue$Node" "first" "LWordTongue$Node;") ∈ lw_all := lw_g (lw_at lw_m8 197 rfl) rfl
theorem q2133 : (Jvm.Cond.fieldLink "WordTongue$Translator" (332 : Nat) "WordTongue$Listed" "first" "LWordTongue$Node;") ∈ lw_all := lw_g (lw_at lw_m8 199 rfl) rfl
theorem q2137 : (Jvm.Cond.fieldLink "WordTongue$Translator" (186 : Nat) "WordTongue$Node" "next" "LWordTongue$Node;") ∈ lw_all := lw_g (lw_at lw_m8 203 rfl) rfl
theorem q2458 : (Jvm.Cond.fieldLink "WordTongue$Translator" (204 : Nat) "WordTongue$Listed" "names" "Ljava/util/List;") ∈ lw_all := lw_g (lw_at lw_m10 44 rfl) rfl
theorem q2461 : (Jvm.Cond.fieldLink "WordTongue$Translator" (282 : Nat) "WordTongue$Listed" "outside" "Z") ∈ lw_all := lw_g (lw_at lw_m10 47 rfl) rfl
theorem q2462 : (Jvm.Cond.fieldLink "WordTongue$Translator" (153 : Nat) "WordTongue$Listed" "global" "Z") ∈ lw_all := lw_g (lw_at lw_m10 48 rfl) rfl
theorem q2465 : (Jvm.Cond.fieldLink "WordTongue$Translator" (310 : Nat) "WordTongue$Listed" "gives" "Z") ∈ lw_all := lw_g (lw_at lw_m10 51 rfl) rfl
theorem q2466 : (Jvm.Cond.fieldLink "WordTongue$Translator" (150 : Nat) "WordTongue$Listed" "number" "I") ∈ lw_all := lw_g (lw_at lw_m10 52 rfl) rfl
theorem q2552 : (Jvm.Cond.instanceMethod ({ cls := "WordTongue$Translator", name := "text", desc := "(Ljava/util/List;Ljava/util/List;)V" } : Jvm.MethodName)) ∈ lw_all := lw_g (lw_at lw_m10 138 rfl) rfl
theorem q2553 : (Jvm.Cond.selects "WordTongue$Translator" ({ cls := "WordTongue$Translator", name := "text", desc := "(Ljava/util/List;Ljava/util/List;)V" } : Jvm.MethodName) ({ cls := "WordTongue$Translator", name := "text", desc := "(Ljava/util/List;Ljava/util/List;)V" } : Jvm.MethodName)) ∈ lw_all := lw_g (lw_at lw_m10 139 rfl) rfl
theorem q2554 : (Jvm.Cond.code ({ cls := "WordTongue$Translator", name := "text", desc := "(Ljava/util/List;Ljava/util/List;)V" } : Jvm.MethodName) prog_18_method_14_code (5 : Nat) (Option.none : Option Jvm.ClassFile.FieldType)) ∈ lw_all := lw_g (lw_at lw_m10 140 rfl) rfl
theorem q2555 : (Jvm.Cond.methodLink "WordTongue$Translator" (228 : Nat) ({ cls := "WordTongue$Translator", name := "lay", desc := "(Ljava/util/List;)V" } : Jvm.MethodName)) ∈ lw_all := lw_g (lw_at lw_m10 141 rfl) rfl
theorem q2556 : (Jvm.Cond.privateMethod ({ cls := "WordTongue$Translator", name := "lay", desc := "(Ljava/util/List;)V" } : Jvm.MethodName)) ∈ lw_tbl := lw_at lw_m10 142 rfl
theorem q2557 : (Jvm.Cond.instanceMethod ({ cls := "WordTongue$Translator", name := "lay", desc := "(Ljava/util/List;)V" } : Jvm.MethodName)) ∈ lw_all := lw_g (lw_at lw_m10 143 rfl) rfl
theorem q2558 : (Jvm.Cond.code ({ cls := "WordTongue$Translator", name := "lay", desc := "(Ljava/util/List;)V" } : Jvm.MethodName) prog_18_method_9_code (7 : Nat) (Option.none : Option Jvm.ClassFile.FieldType)) ∈ lw_all := lw_g (lw_at lw_m10 144 rfl) rfl
theorem q2559 : (Jvm.Cond.interfaceEntry "WordTongue$Translator" (50 : Nat)) ∈ lw_tbl := lw_at lw_m10 145 rfl
theorem q2560 : (Jvm.Cond.methodLink "WordTongue$Translator" (50 : Nat) ({ cls := "java/util/List", name := "size", desc := "()I" } : Jvm.MethodName)) ∈ lw_all := lw_g (lw_at lw_m10 146 rfl) rfl
theorem q2561 : (Jvm.Cond.interfaceEntry "WordTongue$Translator" (58 : Nat)) ∈ lw_tbl := lw_at lw_m10 147 rfl
theorem q2562 : (Jvm.Cond.methodLink "WordTongue$Translator" (58 : Nat) ({ cls := "java/util/List", name := "get", desc := "(I)Ljava/lang/Object;" } : Jvm.MethodName)) ∈ lw_all := lw_g (lw_at lw_m10 148 rfl) rfl
theorem q2563 : (Jvm.Cond.classLink "WordTongue$Translator" (87 : Nat) "WordTongue$Node") ∈ lw_all := lw_g (lw_at lw_m10 149 rfl) rfl
theorem q2564 : (Jvm.Cond.fieldLink "WordTongue$Translator" (129 : Nat) "WordTongue$Kind" "STRING" "LWordTongue$Kind;") ∈ lw_all := lw_g (lw_at lw_m10 150 rfl) rfl
theorem q2565 : (Jvm.Cond.methodLink "WordTongue$Translator" (134 : Nat) ({ cls := "java/lang/String", name := "length", desc := "()I" } : Jvm.MethodName)) ∈ lw_all := lw_g (lw_at lw_m10 151 rfl) rfl
theorem q2566 : (Jvm.Cond.fieldLink "WordTongue$Translator" (139 : Nat) "WordTongue$Kind" "TABLE" "LWordTongue$Kind;") ∈ lw_all := lw_g (lw_at lw_m10 152 rfl) rfl
theorem q2567 : (Jvm.Cond.methodLink "WordTongue$Translator" (142 : Nat) ({ cls := "WordTongue$Node", name := "parts", desc := "()I" } : Jvm.MethodName)) ∈ lw_all := lw_g (lw_at lw_m10 153 rfl) rfl
theorem q2568 : (Jvm.Cond.fieldLink "WordTongue$Translator" (145 : Nat) "WordTongue$Kind" "ROUTINE" "LWordTongue$Kind;") ∈ lw_all := lw_g (lw_at lw_m10 154 rfl) rfl
theorem q2569 : (Jvm.Cond.classLink "WordTongue$Translator" (148 : Nat) "WordTongue$Listed") ∈ lw_all := lw_g (lw_at lw_m10 155 rfl) rfl
theorem q2570 : (Jvm.Cond.methodLink "WordTongue$Translator" (163 : Nat) ({ cls := "java/lang/String", name := "charAt", desc := "(I)C" } : Jvm.MethodName)) ∈ lw_all := lw_g (lw_at lw_m10 156 rfl) rfl
theorem q2571 : (Jvm.Cond.constant "WordTongue$Translator" (167 : Nat) (1000000 : Int32)) ∈ lw_all := lw_g (lw_at lw_m10 157 rfl) rfl
theorem q2572 : (Jvm.Cond.classLink "WordTongue$Translator" (114 : Nat) "WordTongue$Routine") ∈ lw_all := lw_g (lw_at lw_m10 158 rfl) rfl
theorem q2574 : (Jvm.Cond.methodLinkNest "WordTongue$Translator" (168 : Nat) ({ cls := "WordTongue$Routine", name := "<init>", desc := "()V" } : Jvm.MethodName) "WordTongue") ∈ lw_tbl := lw_at lw_m10 160 rfl
theorem q2587 : (Jvm.Cond.fieldLink "WordTongue$Translator" (444 : Nat) "WordTongue$Routine" "labels" "I") ∈ lw_all := lw_g (lw_at lw_m10 173 rfl) rfl
theorem q2589 : (Jvm.Cond.fieldLink "WordTongue$Translator" (307 : Nat) "WordTongue$Routine" "parameters" "I") ∈ lw_all := lw_g (lw_at lw_m10 175 rfl) rfl
theorem q2591 : (Jvm.Cond.fieldLink "WordTongue$Translator" (113 : Nat) "WordTongue$Routine" "used" "I") ∈ lw_all := lw_g (lw_at lw_m10 177 rfl) rfl
theorem q2593 : (Jvm.Cond.fieldLink "WordTongue$Translator" (239 : Nat) "WordTongue$Routine" "most" "I") ∈ lw_all := lw_g (lw_at lw_m10 179 rfl) rfl
theorem q2595 : (Jvm.Cond.fieldLink "WordTongue$Translator" (313 : Nat) "WordTongue$Routine" "gives" "Z") ∈ lw_all := lw_g (lw_at lw_m10 181 rfl) rfl
theorem q2611 : (Jvm.Cond.methodLink "WordTongue$Translator" (232 : Nat) ({ cls := "WordTongue$Translator", name := "open", desc := "()V" } : Jvm.MethodName)) ∈ lw_all := lw_g (lw_at lw_m10 197 rfl) rfl
theorem q2612 : (Jvm.Cond.privateMethod ({ cls := "WordTongue$Translator", name := "open", desc := "()V" } : Jvm.MethodName)) ∈ lw_tbl := lw_at lw_m10 198 rfl
theorem q2613 : (Jvm.Cond.instanceMethod ({ cls := "WordTongue$Translator", name := "open", desc := "()V" } : Jvm.MethodName)) ∈ lw_all := lw_g (lw_at lw_m10 199 rfl) rfl
theorem q2614 : (Jvm.Cond.code ({ cls := "WordTongue$Translator", name := "open", desc := "()V" } : Jvm.MethodName) prog_18_method_3_code (1 : Nat) (Option.none : Option Jvm.ClassFile.FieldType)) ∈ lw_all := lw_g (lw_at lw_m10 200 rfl) rfl
theorem q2615 : (Jvm.Cond.classLink "WordTongue$Translator" (47 : Nat) "java/util/HashMap") ∈ lw_all := lw_g (lw_at lw_m10 201 rfl) rfl
theorem q2616 : (Jvm.Cond.methodLink "WordTongue$Translator" (49 : Nat) ({ cls := "java/util/HashMap", name := "<init>", desc := "()V" } : Jvm.MethodName)) ∈ lw_all := lw_g (lw_at lw_m10 202 rfl) rfl
theorem q2617 : (Jvm.Cond.methodLink "WordTongue$Translator" (235 : Nat) ({ cls := "WordTongue$Translator", name := "declaration", desc := "(LWordTongue$Node;)V" } : Jvm.MethodName)) ∈ lw_all := lw_g (lw_at lw_m10 203 rfl) rfl
theorem q2618 : (Jvm.Cond.privateMethod ({ cls := "WordTongue$Translator", name := "declaration", desc := "(LWordTongue$Node;)V" } : Jvm.MethodName)) ∈ lw_tbl := lw_at lw_m10 204 rfl
theorem q2619 : (Jvm.Cond.instanceMethod ({ cls := "WordTongue$Translator", name := "declaration", desc := "(LWordTongue$Node;)V" } : Jvm.MethodName)) ∈ lw_all := lw_g (lw_at lw_m10 205 rfl) rfl
theorem q2620 : (Jvm.Cond.code ({ cls := "WordTongue$Translator", name := "declaration", desc := "(LWordTongue$Node;)V" } : Jvm.MethodName) prog_18_method_15_code (2 : Nat) (Option.none : Option Jvm.ClassFile.FieldType)) ∈ lw_all := lw_g (lw_at lw_m10 206 rfl) rfl
theorem q2621 : (Jvm.Cond.methodLink "WordTongue$Translator" (169 : Nat) ({ cls := "WordTongue$Kind", name := "ordinal", desc := "()I" } : Jvm.MethodName)) ∈ lw_all := lw_g (lw_at lw_m10 207 rfl) rfl
theorem q2627 : (Jvm.Cond.methodLink "WordTongue$Translator" (242 : Nat) ({ cls := "WordTongue$Translator", name := "routinesOf", desc := "(LWordTongue$Node;)V" } : Jvm.MethodName)) ∈ lw_all := lw_g (lw_at lw_m10 213 rfl) rfl
theorem q2628 : (Jvm.Cond.privateMethod ({ cls := "WordTongue$Translator", name := "routinesOf", desc := "(LWordTongue$Node;)V" } : Jvm.MethodName)) ∈ lw_tbl := lw_at lw_m10 214 rfl
theorem q2629 : (Jvm.Cond.instanceMethod ({ cls := "WordTongue$Translator", name := "routinesOf", desc := "(LWordTongue$Node;)V" } : Jvm.MethodName)) ∈ lw_all := lw_g (lw_at lw_m10 215 rfl) rfl
theorem q2630 : (Jvm.Cond.code ({ cls := "WordTongue$Translator", name := "routinesOf", desc := "(LWordTongue$Node;)V" } : Jvm.MethodName) prog_18_method_17_code (7 : Nat) (Option.none : Option Jvm.ClassFile.FieldType)) ∈ lw_all := lw_g (lw_at lw_m10 216 rfl) rfl
theorem q2631 : (Jvm.Cond.classLink "WordTongue$Translator" (61 : Nat) "java/util/Map") ∈ lw_all := lw_g (lw_at lw_m10 217 rfl) rfl
theorem q2632 : (Jvm.Cond.interfaceEntry "WordTongue$Translator" (83 : Nat)) ∈ lw_tbl := lw_at lw_m10 218 rfl
theorem q2633 : (Jvm.Cond.methodLink "WordTongue$Translator" (83 : Nat) ({ cls := "java/util/Map", name := "get", desc := "(Ljava/lang/Object;)Ljava/lang/Object;" } : Jvm.MethodName)) ∈ lw_all := lw_g (lw_at lw_m10 219 rfl) rfl
theorem q2641 : (Jvm.Cond.classLink "WordTongue$Translator" (67 : Nat) "WordTongue$Meaning") ∈ lw_all := lw_g (lw_at lw_m10 227 rfl) rfl
theorem q2642 : (Jvm.Cond.stringRef "WordTongue$Translator" (285 : Nat) "START") ∈ lw_tbl := lw_at lw_m10 228 rfl
theorem q2643 : (Jvm.Cond.methodLink "WordTongue$Translator" (287 : Nat) ({ cls := "java/lang/String", name := "equals", desc := "(Ljava/lang/Object;)Z" } : Jvm.MethodName)) ∈ lw_all := lw_g (lw_at lw_m10 229 rfl) rfl
theorem q2644 : (Jvm.Cond.fieldLink "WordTongue$Translator" (254 : Nat) "WordTongue$Sort" "WORD" "LWordTongue$Sort;") ∈ lw_all := lw_g (lw_at lw_m10 230 rfl) rfl
theorem q2646 : (Jvm.Cond.methodLink "WordTongue$Translator" (118 : Nat) ({ cls := "WordTongue$Meaning", name := "<init>", desc := "(LWordTongue$Sort;I)V" } : Jvm.MethodName)) ∈ lw_all := lw_g (lw_at lw_m10 232 rfl) rfl
theorem q2647 : (Jvm.Cond.methodLink "WordTongue$Translator" (266 : Nat) ({ cls := "WordTongue$Translator", name := "declare", desc := "(Ljava/lang/String;ILWordTongue$Meaning;)V" } : Jvm.MethodName)) ∈ lw_all := lw_g (lw_at lw_m10 233 rfl) rfl
theorem q2648 : (Jvm.Cond.privateMethod ({ cls := "WordTongue$Translator", name := "declare", desc := "(Ljava/lang/String;ILWordTongue$Meaning;)V" } : Jvm.MethodName)) ∈ lw_tbl := lw_at lw_m10 234 rfl
theorem q2649 : (Jvm.Cond.instanceMethod ({ cls := "WordTongue$Translator", name := "declare", desc := "(Ljava/lang/String;ILWordTongue$Meaning;)V" } : Jvm.MethodName)) ∈ lw_all := lw_g (lw_at lw_m10 235 rfl) rfl
theorem q2650 : (Jvm.Cond.code ({ cls := "WordTongue$Translator", name := "declare", desc := "(Ljava/lang/String;ILWordTongue$Meaning;)V" } : Jvm.MethodName) prog_18_method_5_code (5 : Nat) (Option.none : Option Jvm.ClassFile.FieldType)) ∈ lw_all := lw_g (lw_at lw_m10 236 rfl) rfl
theorem q2651 : (Jvm.Cond.interfaceEntry "WordTongue$Translator" (63 : Nat)) ∈ lw_tbl := lw_at lw_m10 237 rfl
theorem q2652 : (Jvm.Cond.methodLink "WordTongue$Translator" (63 : Nat) ({ cls := "java/util/Map", name := "put", desc := "(Ljava/lang/Object;Ljava/lang/Object;)Ljava/lang/Object;" } : Jvm.MethodName)) ∈ lw_all := lw_g (lw_at lw_m10 238 rfl) rfl
theorem q2653 : (Jvm.Cond.methodLink "WordTongue$Translator" (70 : Nat) ({ cls := "java/lang/Math", name := "min", desc := "(II)I" } : Jvm.MethodName)) ∈ lw_all := lw_g (lw_at lw_m10 239 rfl) rfl
theorem q2654 : (Jvm.Cond.methodLink "WordTongue$Translator" (76 : Nat) ({ cls := "java/lang/Math", name := "max", desc := "(II)I" } : Jvm.MethodName)) ∈ lw_all := lw_g (lw_at lw_m11 0 rfl) rfl
theorem q2655 : (Jvm.Cond.methodLink "WordTongue$Translator" (79 : Nat) ({ cls := "WordTongue$Translator", name := "wrong", desc := "(II)V" } : Jvm.MethodName)) ∈ lw_all := lw_g (lw_at lw_m11 1 rfl) rfl
theorem q2656 : (Jvm.Cond.privateMethod ({ cls := "WordTongue$Translator", name := "wrong", desc := "(II)V" } : Jvm.MethodName)) ∈ lw_tbl := lw_at lw_m11 2 rfl
theorem q2657 : (Jvm.Cond.instanceMethod ({ cls := "WordTongue$Translator", name := "wrong", desc := "(II)V" } : Jvm.MethodName)) ∈ lw_all := lw_g (lw_at lw_m11 3 rfl) rfl
theorem q2658 : (Jvm.Cond.code ({ cls := "WordTongue$Translator", name := "wrong", desc := "(II)V" } : Jvm.MethodName) prog_18_method_2_code (3 : Nat) (Option.none : Option Jvm.ClassFile.FieldType)) ∈ lw_all := lw_g (lw_at lw_m11 4 rfl) rfl
theorem q2659 : (Jvm.Cond.methodLink "WordTongue$Translator" (292 : Nat) ({ cls := "WordTongue$Translator", name := "routine", desc := "(LWordTongue$Listed;)V" } : Jvm.MethodName)) ∈ lw_all := lw_g (lw_at lw_m11 5 rfl) rfl
theorem q2660 : (Jvm.Cond.privateMethod ({ cls := "WordTongue$Translator", name := "routine", desc := "(LWordTongue$Listed;)V" } : Jvm.MethodName)) ∈ lw_tbl := lw_at lw_m11 6 rfl
theorem q2661 : (Jvm.Cond.instanceMethod ({ cls := "WordTongue$Translator", name := "routine", desc := "(LWordTongue$Listed;)V" } : Jvm.MethodName)) ∈ lw_all := lw_g (lw_at lw_m11 7 rfl) rfl
theorem q2662 : (Jvm.Cond.code ({ cls := "WordTongue$Translator", name := "routine", desc := "(LWordTongue$Listed;)V" } : Jvm.MethodName) prog_18_method_18_code (9 : Nat) (Option.none : Option Jvm.ClassFile.FieldType)) ∈ lw_all := lw_g (lw_at lw_m11 8 rfl) rfl
theorem q2663 : (Jvm.Cond.classLink "WordTongue$Translator" (207 : Nat) "WordTongue$Token") ∈ lw_all := lw_g (lw_at lw_m11 9 rfl) rfl
theorem q2664 : (Jvm.Cond.methodLink "WordTongue$Translator" (315 : Nat) ({ cls := "WordTongue$Translator", name := "local", desc := "()LWordTongue$Meaning;" } : Jvm.MethodName)) ∈ lw_all := lw_g (lw_at lw_m11 10 rfl) rfl
theorem q2665 : (Jvm.Cond.privateMethod ({ cls := "WordTongue$Translator", name := "local", desc := "()LWordTongue$Meaning;" } : Jvm.MethodName)) ∈ lw_tbl := lw_at lw_m11 11 rfl
theorem q2666 : (Jvm.Cond.instanceMethod ({ cls := "WordTongue$Translator", name := "local", desc := "()LWordTongue$Meaning;" } : Jvm.MethodName)) ∈ lw_all := lw_g (lw_at lw_m11 12 rfl) rfl
theorem q2667 : (Jvm.Cond.code ({ cls := "WordTongue$Translator", name := "local", desc := "()LWordTongue$Meaning;" } : Jvm.MethodName) prog_18_method_8_code (2 : Nat) (Option.some (Jvm.ClassFile.FieldType.object "WordTongue$Meaning"))) ∈ lw_all := lw_g (lw_at lw_m11 13 rfl) rfl
theorem q2668 : (Jvm.Cond.fieldLink "WordTongue$Translator" (101 : Nat) "WordTongue$Sort" "LOCAL" "LWordTongue$Sort;") ∈ lw_all := lw_g (lw_at lw_m11 14 rfl) rfl
theorem q2670 : (Jvm.Cond.methodLink "WordTongue$Translator" (121 : Nat) ({ cls := "WordTongue$Routine", name := "use", desc := "(I)V" } : Jvm.MethodName)) ∈ lw_all := lw_g (lw_at lw_m11 16 rfl) rfl
theorem q2675 : (Jvm.Cond.methodLink "WordTongue$Translator" (319 : Nat) ({ cls := "WordTongue$Listed", name := "part", desc := "(I)LWordTongue$Node;" } : Jvm.MethodName)) ∈ lw_all := lw_g (lw_at lw_m11 21 rfl) rfl
theorem q2681 : (Jvm.Cond.methodLink "WordTongue$Translator" (320 : Nat) ({ cls := "WordTongue$Translator", name := "value", desc := "(LWordTongue$Node;)V" } : Jvm.MethodName)) ∈ lw_all := lw_g (lw_at lw_m11 27 rfl) rfl
theorem q2682 : (Jvm.Cond.privateMethod ({ cls := "WordTongue$Translator", name := "value", desc := "(LWordTongue$Node;)V" } : Jvm.MethodName)) ∈ lw_tbl := lw_at lw_m11 28 rfl
theorem q2683 : (Jvm.Cond.instanceMethod ({ cls := "WordTongue$Translator", name := "value", desc := "(LWordTongue$Node;)V" } : Jvm.MethodName)) ∈ lw_all := lw_g (lw_at lw_m11 29 rfl) rfl
theorem q2684 : (Jvm.Cond.code ({ cls := "WordTongue$Translator", name := "value", desc := "(LWordTongue$Node;)V" } : Jvm.MethodName) prog_18_method_20_code (4 : Nat) (Option.none : Option Jvm.ClassFile.FieldType)) ∈ lw_all := lw_g (lw_at lw_m11 30 rfl) rfl
theorem q2685 : (Jvm.Cond.methodLink "WordTongue$Translator" (325 : Nat) ({ cls := "WordTongue$Routine", name := "emit", desc := "(II)I" } : Jvm.MethodName)) ∈ lw_all := lw_g (lw_at lw_m11 31 rfl) rfl
theorem q2690 : (Jvm.Cond.methodLink "WordTongue$Translator" (336 : Nat) ({ cls := "WordTongue$Translator", name := "meaning", desc := "(LWordTongue$Node;)LWordTongue$Meaning;" } : Jvm.MethodName)) ∈ lw_all := lw_g (lw_at lw_m11 36 rfl) rfl
theorem q2691 : (Jvm.Cond.privateMethod ({ cls := "WordTongue$Translator", name := "meaning", desc := "(LWordTongue$Node;)LWordTongue$Meaning;" } : Jvm.MethodName)) ∈ lw_tbl := lw_at lw_m11 37 rfl
theorem q2692 : (Jvm.Cond.instanceMethod ({ cls := "WordTongue$Translator", name := "meaning", desc := "(LWordTongue$Node;)LWordTongue$Meaning;" } : Jvm.MethodName)) ∈ lw_all := lw_g (lw_at lw_m11 38 rfl) rfl
theorem q2693 : (Jvm.Cond.code ({ cls := "WordTongue$Translator", name := "meaning", desc := "(LWordTongue$Node;)LWordTongue$Meaning;" } : Jvm.MethodName) prog_18_method_7_code (3 : Nat) (Option.some (Jvm.ClassFile.FieldType.object "WordTongue$Meaning"))) ∈ lw_all := lw_g (lw_at lw_m11 39 rfl) rfl
theorem q2694 : (Jvm.Cond.methodLink "WordTongue$Translator" (92 : Nat) ({ cls := "WordTongue$Translator", name := "find", desc := "(Ljava/lang/String;)LWordTongue$Meaning;" } : Jvm.MethodName)) ∈ lw_all := lw_g (lw_at lw_m11 40 rfl) rfl
theorem q2695 : (Jvm.Cond.privateMethod ({ cls := "WordTongue$Translator", name := "find", desc := "(Ljava/lang/String;)LWordTongue$Meaning;" } : Jvm.MethodName)) ∈ lw_tbl := lw_at lw_m11 41 rfl
theorem q2696 : (Jvm.Cond.instanceMethod ({ cls := "WordTongue$Translator", name := "find", desc := "(Ljava/lang/String;)LWordTongue$Meaning;" } : Jvm.MethodName)) ∈ lw_all := lw_g (lw_at lw_m11 42 rfl) rfl
theorem q2697 : (Jvm.Cond.code ({ cls := "WordTongue$Translator", name := "find", desc := "(Ljava/lang/String;)LWordTongue$Meaning;" } : Jvm.MethodName) prog_18_method_6_code (4 : Nat) (Option.some (Jvm.ClassFile.FieldType.object "WordTongue$Meaning"))) ∈ lw_all := lw_g (lw_at lw_m11 43 rfl) rfl
theorem q2698 : (Jvm.Cond.fieldLink "WordTongue$Translator" (340 : Nat) "WordTongue$Sort" "LABEL" "LWordTongue$Sort;") ∈ lw_all := lw_g (lw_at lw_m11 44 rfl) rfl
theorem q2700 : (Jvm.Cond.methodLink "WordTongue$Translator" (192 : Nat) ({ cls := "WordTongue$Node", name := "part", desc := "(I)LWordTongue$Node;" } : Jvm.MethodName)) ∈ lw_all := lw_g (lw_at lw_m11 46 rfl) rfl
theorem q2701 : (Jvm.Cond.fieldLink "WordTongue$Translator" (343 : Nat) "WordTongue$Kind" "MINUS" "LWordTongue$Kind;") ∈ lw_all := lw_g (lw_at lw_m11 47 rfl) rfl
theorem q2702 : (Jvm.Cond.methodLink "WordTongue$Translator" (346 : Nat) ({ cls := "WordTongue$Translator", name := "word", desc := "(LWordTongue$Node;)V" } : Jvm.MethodName)) ∈ lw_all := lw_g (lw_at lw_m11 48 rfl) rfl
theorem q2703 : (Jvm.Cond.privateMethod ({ cls := "WordTongue$Translator", name := "word", desc := "(LWordTongue$Node;)V" } : Jvm.MethodName)) ∈ lw_tbl := lw_at lw_m11 49 rfl
theorem q2704 : (Jvm.Cond.instanceMethod ({ cls := "WordTongue$Translator", name := "word", desc := "(LWordTongue$Node;)V" } : Jvm.MethodName)) ∈ lw_all := lw_g (lw_at lw_m11 50 rfl) rfl
theorem q2705 : (Jvm.Cond.code ({ cls := "WordTongue$Translator", name := "word", desc := "(LWordTongue$Node;)V" } : Jvm.MethodName) prog_18_method_25_code (2 : Nat) (Option.none : Option Jvm.ClassFile.FieldType)) ∈ lw_all := lw_g (lw_at lw_m11 51 rfl) rfl
theorem q2706 : (Jvm.Cond.stringRef "WordTongue$Translator" (381 : Nat) "+") ∈ lw_tbl := lw_at lw_m11 52 rfl
theorem q2707 : (Jvm.Cond.methodLinkNest "WordTongue$Translator" (218 : Nat) ({ cls := "WordTongue", name := "operatorOf", desc := "(Ljava/lang/String;)I" } : Jvm.MethodName) "WordTongue") ∈ lw_tbl := lw_at lw_m11 53 rfl
theorem q2710 : (Jvm.Cond.methodLink "WordTongue$Translator" (349 : Nat) ({ cls := "WordTongue$Translator", name := "address", desc := "(LWordTongue$Node;)V" } : Jvm.MethodName)) ∈ lw_all := lw_g (lw_at lw_m11 56 rfl) rfl
theorem q2711 : (Jvm.Cond.privateMethod ({ cls := "WordTongue$Translator", name := "address", desc := "(LWordTongue$Node;)V" } : Jvm.MethodName)) ∈ lw_tbl := lw_at lw_m11 57 rfl
theorem q2712 : (Jvm.Cond.instanceMethod ({ cls := "WordTongue$Translator", name := "address", desc := "(LWordTongue$Node;)V" } : Jvm.MethodName)) ∈ lw_all := lw_g (lw_at lw_m11 58 rfl) rfl
theorem q2713 : (Jvm.Cond.code ({ cls := "WordTongue$Translator", name := "address", desc := "(LWordTongue$Node;)V" } : Jvm.MethodName) prog_18_method_26_code (4 : Nat) (Option.none : Option Jvm.ClassFile.FieldType)) ∈ lw_all := lw_g (lw_at lw_m11 59 rfl) rfl
theorem q2714 : (Jvm.Cond.fieldLink "WordTongue$Translator" (383 : Nat) "WordTongue$Kind" "LOAD" "LWordTongue$Kind;") ∈ lw_all := lw_g (lw_at lw_m11 60 rfl) rfl
theorem q2715 : (Jvm.Cond.fieldLink "WordTongue$Translator" (386 : Nat) "WordTongue$Kind" "NAME" "LWordTongue$Kind;") ∈ lw_all := lw_g (lw_at lw_m11 61 rfl) rfl
theorem q2716 : (Jvm.Cond.methodLink "WordTongue$Translator" (389 : Nat) ({ cls := "WordTongue$Translator", name := "noPlace", desc := "(LWordTongue$Node;)V" } : Jvm.MethodName)) ∈ lw_all := lw_g (lw_at lw_m11 62 rfl) rfl
theorem q2717 : (Jvm.Cond.privateMethod ({ cls := "WordTongue$Translator", name := "noPlace", desc := "(LWordTongue$Node;)V" } : Jvm.MethodName)) ∈ lw_tbl := lw_at lw_m11 63 rfl
theorem q2718 : (Jvm.Cond.instanceMethod ({ cls := "WordTongue$Translator", name := "noPlace", desc := "(LWordTongue$Node;)V" } : Jvm.MethodName)) ∈ lw_all := lw_g (lw_at lw_m11 64 rfl) rfl
theorem q2719 : (Jvm.Cond.code ({ cls := "WordTongue$Translator", name := "noPlace", desc := "(LWordTongue$Node;)V" } : Jvm.MethodName) prog_18_method_27_code (2 : Nat) (Option.none : Option Jvm.ClassFile.FieldType)) ∈ lw_all := lw_g (lw_at lw_m11 65 rfl) rfl
theorem q2720 : (Jvm.Cond.methodLink "WordTongue$Translator" (352 : Nat) ({ cls := "WordTongue$Translator", name := "binary", desc := "(LWordTongue$Node;)V" } : Jvm.MethodName)) ∈ lw_all := lw_g (lw_at lw_m11 66 rfl) rfl
theorem q2721 : (Jvm.Cond.privateMethod ({ cls := "WordTongue$Translator", name := "binary", desc := "(LWordTongue$Node;)V" } : Jvm.MethodName)) ∈ lw_tbl := lw_at lw_m11 67 rfl
theorem q2722 : (Jvm.Cond.instanceMethod ({ cls := "WordTongue$Translator", name := "binary", desc := "(LWordTongue$Node;)V" } : Jvm.MethodName)) ∈ lw_all := lw_g (lw_at lw_m11 68 rfl) rfl
theorem q2723 : (Jvm.Cond.code ({ cls := "WordTongue$Translator", name := "binary", desc := "(LWordTongue$Node;)V" } : Jvm.MethodName) prog_18_method_21_code (5 : Nat) (Option.none : Option Jvm.ClassFile.FieldType)) ∈ lw_all := lw_g (lw_at lw_m11 69 rfl) rfl
theorem q2724 : (Jvm.Cond.fieldLink "WordTongue$Translator" (189 : Nat) "WordTongue$Kind" "BINARY" "LWordTongue$Kind;") ∈ lw_all := lw_g (lw_at lw_m11 70 rfl) rfl
theorem q2725 : (Jvm.Cond.methodLink "WordTongue$Translator" (355 : Nat) ({ cls := "WordTongue$Translator", name := "compare", desc := "(LWordTongue$Listed;)V" } : Jvm.MethodName)) ∈ lw_all := lw_g (lw_at lw_m11 71 rfl) rfl
theorem q2726 : (Jvm.Cond.privateMethod ({ cls := "WordTongue$Translator", name := "compare", desc := "(LWordTongue$Listed;)V" } : Jvm.MethodName)) ∈ lw_tbl := lw_at lw_m11 72 rfl
theorem q2727 : (Jvm.Cond.instanceMethod ({ cls := "WordTongue$Translator", name := "compare", desc := "(LWordTongue$Listed;)V" } : Jvm.MethodName)) ∈ lw_all := lw_g (lw_at lw_m11 73 rfl) rfl
theorem q2728 : (Jvm.Cond.code ({ cls := "WordTongue$Translator", name := "compare", desc := "(LWordTongue$Listed;)V" } : Jvm.MethodName) prog_18_method_22_code (6 : Nat) (Option.none : Option Jvm.ClassFile.FieldType)) ∈ lw_all := lw_g (lw_at lw_m11 74 rfl) rfl
theorem q2729 : (Jvm.Cond.methodLinkNest "WordTongue$Translator" (210 : Nat) ({ cls := "WordTongue", name := "relationOf", desc := "(Ljava/lang/String;)I" } : Jvm.MethodName) "WordTongue") ∈ lw_tbl := lw_at lw_m11 75 rfl
theorem q2732 : (Jvm.Cond.methodLink "WordTongue$Translator" (365 : Nat) ({ cls := "java/lang/Integer", name := "valueOf", desc := "(I)Ljava/lang/Integer;" } : Jvm.MethodName)) ∈ lw_all := lw_g (lw_at lw_m11 78 rfl) rfl
theorem q2751 : (Jvm.Cond.interfaceEntry "WordTongue$Translator" (371 : Nat)) ∈ lw_tbl := lw_at lw_m11 97 rfl
theorem q2752 : (Jvm.Cond.methodLink "WordTongue$Translator" (371 : Nat) ({ cls := "java/util/List", name := "isEmpty", desc := "()Z" } : Jvm.MethodName)) ∈ lw_all := lw_g (lw_at lw_m11 98 rfl) rfl
theorem q2753 : (Jvm.Cond.classLink "WordTongue$Translator" (366 : Nat) "java/lang/Integer") ∈ lw_all := lw_g (lw_at lw_m11 99 rfl) rfl
theorem q2754 : (Jvm.Cond.methodLink "WordTongue$Translator" (375 : Nat) ({ cls := "java/lang/Integer", name := "intValue", desc := "()I" } : Jvm.MethodName)) ∈ lw_all := lw_g (lw_at lw_m11 100 rfl) rfl
theorem q2755 : (Jvm.Cond.methodLink "WordTongue$Translator" (358 : Nat) ({ cls := "WordTongue$Routine", name := "land", desc := "(I)V" } : Jvm.MethodName)) ∈ lw_all := lw_g (lw_at lw_m11 101 rfl) rfl
theorem q2764 : (Jvm.Cond.constant "WordTongue$Translator" (361 : Nat) (65536 : Int32)) ∈ lw_all := lw_g (lw_at lw_m11 110 rfl) rfl
theorem q2765 : (Jvm.Cond.methodLink "WordTongue$Translator" (270 : Nat) ({ cls := "WordTongue$Translator", name := "worked", desc := "(LWordTongue$Node;)I" } : Jvm.MethodName)) ∈ lw_all := lw_g (lw_at lw_m11 111 rfl) rfl
theorem q2766 : (Jvm.Cond.privateMethod ({ cls := "WordTongue$Translator", name := "worked", desc := "(LWordTongue$Node;)I" } : Jvm.MethodName)) ∈ lw_tbl := lw_at lw_m11 112 rfl
theorem q2767 : (Jvm.Cond.instanceMethod ({ cls := "WordTongue$Translator", name := "worked", desc := "(LWordTongue$Node;)I" } : Jvm.MethodName)) ∈ lw_all := lw_g (lw_at lw_m11 113 rfl) rfl
theorem q2768 : (Jvm.Cond.code ({ cls := "WordTongue$Translator", name := "worked", desc := "(LWordTongue$Node;)I" } : Jvm.MethodName) prog_18_method_13_code (3 : Nat) (Option.some Jvm.ClassFile.FieldType.int)) ∈ lw_all := lw_g (lw_at lw_m11 114 rfl) rfl
theorem q2769 : (Jvm.Cond.methodLink "WordTongue$Translator" (182 : Nat) ({ cls := "WordTongue$Translator", name := "isConstant", desc := "(LWordTongue$Node;)Z" } : Jvm.MethodName)) ∈ lw_all := lw_g (lw_at lw_m11 115 rfl) rfl
theorem q2770 : (Jvm.Cond.privateMethod ({ cls := "WordTongue$Translator", name := "isConstant", desc := "(LWordTongue$Node;)Z" } : Jvm.MethodName)) ∈ lw_tbl := lw_at lw_m11 116 rfl
theorem q2771 : (Jvm.Cond.instanceMethod ({ cls := "WordTongue$Translator", name := "isConstant", desc := "(LWordTongue$Node;)Z" } : Jvm.MethodName)) ∈ lw_all := lw_g (lw_at lw_m11 117 rfl) rfl
theorem q2772 : (Jvm.Cond.code ({ cls := "WordTongue$Translator", name := "isConstant", desc := "(LWordTongue$Node;)Z" } : Jvm.MethodName) prog_18_method_11_code (4 : Nat) (Option.some Jvm.ClassFile.FieldType.boolean)) ∈ lw_all := lw_g (lw_at lw_m11 118 rfl) rfl
theorem q2773 : (Jvm.Cond.fieldLink "WordTongue$Translator" (172 : Nat) "WordTongue$Sort" "MANIFEST" "LWordTongue$Sort;") ∈ lw_all := lw_g (lw_at lw_m11 119 rfl) rfl
theorem q2775 : (Jvm.Cond.methodLink "WordTongue$Translator" (197 : Nat) ({ cls := "WordTongue$Translator", name := "constant", desc := "(LWordTongue$Node;)I" } : Jvm.MethodName)) ∈ lw_all := lw_g (lw_at lw_m11 121 rfl) rfl
theorem q2776 : (Jvm.Cond.privateMethod ({ cls := "WordTongue$Translator", name := "constant", desc := "(LWordTongue$Node;)I" } : Jvm.MethodName)) ∈ lw_tbl := lw_at lw_m11 122 rfl
theorem q2777 : (Jvm.Cond.instanceMethod ({ cls := "WordTongue$Translator", name := "constant", desc := "(LWordTongue$Node;)I" } : Jvm.MethodName)) ∈ lw_all := lw_g (lw_at lw_m11 123 rfl) rfl
theorem q2778 : (Jvm.Cond.code ({ cls := "WordTongue$Translator", name := "constant", desc := "(LWordTongue$Node;)I" } : Jvm.MethodName) prog_18_method_12_code (9 : Nat) (Option.some Jvm.ClassFile.FieldType.int)) ∈ lw_all := lw_g (lw_at lw_m11 124 rfl) rfl
theorem q2779 : (Jvm.Cond.methodLinkNest "WordTongue$Translator" (214 : Nat) ({ cls := "WordTongue", name := "holds", desc := "(III)Z" } : Jvm.MethodName) "WordTongue") ∈ lw_tbl := lw_at lw_m11 125 rfl
theorem q2782 : (Jvm.Cond.methodLinkNest "WordTongue$Translator" (221 : Nat) ({ cls := "WordTongue", name := "operated", desc := "(III)I" } : Jvm.MethodName) "WordTongue") ∈ lw_tbl := lw_at lw_m11 128 rfl
theorem q2788 : (Jvm.Cond.methodLink "WordTongue$Translator" (273 : Nat) ({ cls := "WordTongue$Translator", name := "put", desc := "(II)V" } : Jvm.MethodName)) ∈ lw_all := lw_g (lw_at lw_m11 134 rfl) rfl
theorem q2789 : (Jvm.Cond.privateMethod ({ cls := "WordTongue$Translator", name := "put", desc := "(II)V" } : Jvm.MethodName)) ∈ lw_tbl := lw_at lw_m11 135 rfl
theorem q2790 : (Jvm.Cond.instanceMethod ({ cls := "WordTongue$Translator", name := "put", desc := "(II)V" } : Jvm.MethodName)) ∈ lw_all := lw_g (lw_at lw_m11 136 rfl) rfl
theorem q2791 : (Jvm.Cond.code ({ cls := "WordTongue$Translator", name := "put", desc := "(II)V" } : Jvm.MethodName) prog_18_method_10_code (3 : Nat) (Option.none : Option Jvm.ClassFile.FieldType)) ∈ lw_all := lw_g (lw_at lw_m11 137 rfl) rfl
theorem q2792 : (Jvm.Cond.methodLink "WordTongue$Translator" (362 : Nat) ({ cls := "WordTongue$Translator", name := "valof", desc := "(LWordTongue$Node;)V" } : Jvm.MethodName)) ∈ lw_all := lw_g (lw_at lw_m11 138 rfl) rfl
theorem q2793 : (Jvm.Cond.privateMethod ({ cls := "WordTongue$Translator", name := "valof", desc := "(LWordTongue$Node;)V" } : Jvm.MethodName)) ∈ lw_tbl := lw_at lw_m11 139 rfl
theorem q2794 : (Jvm.Cond.instanceMethod ({ cls := "WordTongue$Translator", name := "valof", desc := "(LWordTongue$Node;)V" } : Jvm.MethodName)) ∈ lw_all := lw_g (lw_at lw_m11 140 rfl) rfl
theorem q2795 : (Jvm.Cond.code ({ cls := "WordTongue$Translator", name := "valof", desc := "(LWordTongue$Node;)V" } : Jvm.MethodName) prog_18_method_23_code (6 : Nat) (Option.none : Option Jvm.ClassFile.FieldType)) ∈ lw_all := lw_g (lw_at lw_m11 141 rfl) rfl
theorem q2796 : (Jvm.Cond.methodLink "WordTongue$Translator" (322 : Nat) ({ cls := "WordTongue$Translator", name := "command", desc := "(LWordTongue$Node;)V" } : Jvm.MethodName)) ∈ lw_all := lw_g (lw_at lw_m11 142 rfl) rfl
theorem q2797 : (Jvm.Cond.privateMethod ({ cls := "WordTongue$Translator", name := "command", desc := "(LWordTongue$Node;)V" } : Jvm.MethodName)) ∈ lw_tbl := lw_at lw_m11 143 rfl
theorem q2798 : (Jvm.Cond.instanceMethod ({ cls := "WordTongue$Translator", name := "command", desc := "(LWordTongue$Node;)V" } : Jvm.MethodName)) ∈ lw_all := lw_g (lw_at lw_m11 144 rfl) rfl
theorem q2799 : (Jvm.Cond.code ({ cls := "WordTongue$Translator", name := "command", desc := "(LWordTongue$Node;)V" } : Jvm.MethodName) prog_18_method_29_code (4 : Nat) (Option.none : Option Jvm.ClassFile.FieldType)) ∈ lw_all := lw_g (lw_at lw_m11 145 rfl) rfl
theorem q2800 : (Jvm.Cond.fieldLink "WordTongue$Translator" (395 : Nat) "WordTongue$Kind" "LABEL" "LWordTongue$Kind;") ∈ lw_all := lw_g (lw_at lw_m11 146 rfl) rfl
theorem q2801 : (Jvm.Cond.fieldLink "WordTongue$Translator" (397 : Nat) "WordTongue$Kind" "BLOCK" "LWordTongue$Kind;") ∈ lw_all := lw_g (lw_at lw_m11 147 rfl) rfl
theorem q2802 : (Jvm.Cond.fieldLink "WordTongue$Translator" (400 : Nat) "WordTongue$Kind" "NOTHING" "LWordTongue$Kind;") ∈ lw_all := lw_g (lw_at lw_m11 148 rfl) rfl
theorem q2803 : (Jvm.Cond.fieldLink "WordTongue$Translator" (403 : Nat) "WordTongue$Kind" "REPEAT" "LWordTongue$Kind;") ∈ lw_all := lw_g (lw_at lw_m11 149 rfl) rfl
theorem q2804 : (Jvm.Cond.fieldLink "WordTongue$Translator" (406 : Nat) "WordTongue$Kind" "REPEATWHILE" "LWordTongue$Kind;") ∈ lw_all := lw_g (lw_at lw_m11 150 rfl) rfl
theorem q2805 : (Jvm.Cond.fieldLink "WordTongue$Translator" (409 : Nat) "WordTongue$Kind" "REPEATUNTIL" "LWordTongue$Kind;") ∈ lw_all := lw_g (lw_at lw_m11 151 rfl) rfl
theorem q2806 : (Jvm.Cond.methodLink "WordTongue$Translator" (412 : Nat) ({ cls := "WordTongue$Translator", name := "assign", desc := "(LWordTongue$Node;LWordTongue$Node;)V" } : Jvm.MethodName)) ∈ lw_all := lw_g (lw_at lw_m11 152 rfl) rfl
theorem q2807 : (Jvm.Cond.privateMethod ({ cls := "WordTongue$Translator", name := "assign", desc := "(LWordTongue$Node;LWordTongue$Node;)V" } : Jvm.MethodName)) ∈ lw_tbl := lw_at lw_m11 153 rfl
theorem q2808 : (Jvm.Cond.instanceMethod ({ cls := "WordTongue$Translator", name := "assign", desc := "(LWordTongue$Node;LWordTongue$Node;)V" } : Jvm.MethodName)) ∈ lw_all := lw_g (lw_at lw_m11 154 rfl) rfl
theorem q2809 : (Jvm.Cond.code ({ cls := "WordTongue$Translator", name := "assign", desc := "(LWordTongue$Node;LWordTongue$Node;)V" } : Jvm.MethodName) prog_18_method_28_code (5 : Nat) (Option.none : Option Jvm.ClassFile.FieldType)) ∈ lw_all := lw_g (lw_at lw_m11 155 rfl) rfl
theorem q2810 : (Jvm.Cond.fieldLink "WordTongue$Translator" (392 : Nat) "WordTongue$Kind" "BYTE" "LWordTongue$Kind;") ∈ lw_all := lw_g (lw_at lw_m11 156 rfl) rfl
theorem q2811 : (Jvm.Cond.methodLink "WordTongue$Translator" (416 : Nat) ({ cls := "WordTongue$Translator", name := "branches", desc := "(LWordTongue$Node;)V" } : Jvm.MethodName)) ∈ lw_all := lw_g (lw_at lw_m11 157 rfl) rfl
theorem q2812 : (Jvm.Cond.privateMethod ({ cls := "WordTongue$Translator", name := "branches", desc := "(LWordTongue$Node;)V" } : Jvm.MethodName)) ∈ lw_tbl := lw_at lw_m11 158 rfl
theorem q2813 : (Jvm.Cond.instanceMethod ({ cls := "WordTongue$Translator", name := "branches", desc := "(LWordTongue$Node;)V" } : Jvm.MethodName)) ∈ lw_all := lw_g (lw_at lw_m11 159 rfl) rfl
theorem q2814 : (Jvm.Cond.code ({ cls := "WordTongue$Translator", name := "branches", desc := "(LWordTongue$Node;)V" } : Jvm.MethodName) prog_18_method_34_code (4 : Nat) (Option.none : Option Jvm.ClassFile.FieldType)) ∈ lw_all := lw_g (lw_at lw_m11 160 rfl) rfl
theorem q2815 : (Jvm.Cond.fieldLink "WordTongue$Translator" (455 : Nat) "WordTongue$Kind" "UNLESS" "LWordTongue$Kind;") ∈ lw_all := lw_g (lw_at lw_m11 161 rfl) rfl
theorem q2816 : (Jvm.Cond.fieldLink "WordTongue$Translator" (458 : Nat) "WordTongue$Kind" "TEST" "LWordTongue$Kind;") ∈ lw_all := lw_g (lw_at lw_m11 162 rfl) rfl
theorem q2817 : (Jvm.Cond.methodLink "WordTongue$Translator" (419 : Nat) ({ cls := "WordTongue$Translator", name := "asks", desc := "(LWordTongue$Node;)V" } : Jvm.MethodName)) ∈ lw_all := lw_g (lw_at lw_m11 163 rfl) rfl
theorem q2818 : (Jvm.Cond.privateMethod ({ cls := "WordTongue$Translator", name := "asks", desc := "(LWordTongue$Node;)V" } : Jvm.MethodName)) ∈ lw_tbl := lw_at lw_m11 164 rfl
theorem q2819 : (Jvm.Cond.instanceMethod ({ cls := "WordTongue$Translator", name := "asks", desc := "(LWordTongue$Node;)V" } : Jvm.MethodName)) ∈ lw_all := lw_g (lw_at lw_m11 165 rfl) rfl
theorem q2820 : (Jvm.Cond.code ({ cls := "WordTongue$Translator", name := "asks", desc := "(LWordTongue$Node;)V" } : Jvm.MethodName) prog_18_method_37_code (4 : Nat) (Option.none : Option Jvm.ClassFile.FieldType)) ∈ lw_all := lw_g (lw_at lw_m11 166 rfl) rfl
theorem q2821 : (Jvm.Cond.methodLink "WordTongue$Translator" (461 : Nat) ({ cls := "WordTongue$Routine", name := "mark", desc := "()I" } : Jvm.MethodName)) ∈ lw_all := lw_g (lw_at lw_m11 167 rfl) rfl
theorem q2822 : (Jvm.Cond.fieldLink "WordTongue$Translator" (464 : Nat) "WordTongue$Kind" "WHILE" "LWordTongue$Kind;") ∈ lw_all := lw_g (lw_at lw_m11 168 rfl) rfl
theorem q2823 : (Jvm.Cond.methodLink "WordTongue$Translator" (467 : Nat) ({ cls := "WordTongue$Translator", name := "enterLoop", desc := "()V" } : Jvm.MethodName)) ∈ lw_all := lw_g (lw_at lw_m11 169 rfl) rfl
theorem q2824 : (Jvm.Cond.privateMethod ({ cls := "WordTongue$Translator", name := "enterLoop", desc := "()V" } : Jvm.MethodName)) ∈ lw_tbl := lw_at lw_m11 170 rfl
theorem q2825 : (Jvm.Cond.instanceMethod ({ cls := "WordTongue$Translator", name := "enterLoop", desc := "()V" } : Jvm.MethodName)) ∈ lw_all := lw_g (lw_at lw_m11 171 rfl) rfl
theorem q2826 : (Jvm.Cond.code ({ cls := "WordTongue$Translator", name := "enterLoop", desc := "()V" } : Jvm.MethodName) prog_18_method_35_code (1 : Nat) (Option.none : Option Jvm.ClassFile.FieldType)) ∈ lw_all := lw_g (lw_at lw_m11 172 rfl) rfl
theorem q2827 : (Jvm.Cond.methodLink "WordTongue$Translator" (378 : Nat) ({ cls := "WordTongue$Translator", name := "landAll", desc := "(Ljava/util/List;)V" } : Jvm.MethodName)) ∈ lw_all := lw_g (lw_at lw_m11 173 rfl) rfl
theorem q2828 : (Jvm.Cond.privateMethod ({ cls := "WordTongue$Translator", name := "landAll", desc := "(Ljava/util/List;)V" } : Jvm.MethodName)) ∈ lw_tbl := lw_at lw_m11 174 rfl
theorem q2829 : (Jvm.Cond.instanceMethod ({ cls := "WordTongue$Translator", name := "landAll", desc := "(Ljava/util/List;)V" } : Jvm.MethodName)) ∈ lw_all := lw_g (lw_at lw_m11 175 rfl) rfl
theorem q2830 : (Jvm.Cond.code ({ cls := "WordTongue$Translator", name := "landAll", desc := "(Ljava/util/List;)V" } : Jvm.MethodName) prog_18_method_24_code (3 : Nat) (Option.none : Option Jvm.ClassFile.FieldType)) ∈ lw_all := lw_g (lw_at lw_m11 176 rfl) rfl
theorem q2831 : (Jvm.Cond.methodLink "WordTongue$Translator" (470 : Nat) ({ cls := "WordTongue$Translator", name := "leaveLoop", desc := "()V" } : Jvm.MethodName)) ∈ lw_all := lw_g (lw_at lw_m11 177 rfl) rfl
theorem q2832 : (Jvm.Cond.privateMethod ({ cls := "WordTongue$Translator", name := "leaveLoop", desc := "()V" } : Jvm.MethodName)) ∈ lw_tbl := lw_at lw_m11 178 rfl
theorem q2833 : (Jvm.Cond.instanceMethod ({ cls := "WordTongue$Translator", name := "leaveLoop", desc := "()V" } : Jvm.MethodName)) ∈ lw_all := lw_g (lw_at lw_m11 179 rfl) rfl
theorem q2834 : (Jvm.Cond.code ({ cls := "WordTongue$Translator", name := "leaveLoop", desc := "()V" } : Jvm.MethodName) prog_18_method_36_code (1 : Nat) (Option.none : Option Jvm.ClassFile.FieldType)) ∈ lw_all := lw_g (lw_at lw_m11 180 rfl) rfl
theorem q2835 : (Jvm.Cond.interfaceEntry "WordTongue$Translator" (54 : Nat)) ∈ lw_tbl := lw_at lw_m11 181 rfl
theorem q2836 : (Jvm.Cond.methodLink "WordTongue$Translator" (54 : Nat) ({ cls := "java/util/List", name := "remove", desc := "(I)Ljava/lang/Object;" } : Jvm.MethodName)) ∈ lw_all := lw_g (lw_at lw_m11 182 rfl) rfl
theorem q2837 : (Jvm.Cond.classLink "WordTongue$Translator" (39 : Nat) "java/util/List") ∈ lw_all := lw_g (lw_at lw_m11 183 rfl) rfl
theorem q2838 : (Jvm.Cond.methodLink "WordTongue$Translator" (422 : Nat) ({ cls := "WordTongue$Translator", name := "repeats", desc := "(LWordTongue$Node;)V" } : Jvm.MethodName)) ∈ lw_all := lw_g (lw_at lw_m11 184 rfl) rfl
theorem q2839 : (Jvm.Cond.privateMethod ({ cls := "WordTongue$Translator", name := "repeats", desc := "(LWordTongue$Node;)V" } : Jvm.MethodName)) ∈ lw_tbl := lw_at lw_m11 185 rfl
theorem q2840 : (Jvm.Cond.instanceMethod ({ cls := "WordTongue$Translator", name := "repeats", desc := "(LWordTongue$Node;)V" } : Jvm.MethodName)) ∈ lw_all := lw_g (lw_at lw_m11 186 rfl) rfl
theorem q2841 : (Jvm.Cond.code ({ cls := "WordTongue$Translator", name := "repeats", desc := "(LWordTongue$Node;)V" } : Jvm.MethodName) prog_18_method_38_code (3 : Nat) (Option.none : Option Jvm.ClassFile.FieldType)) ∈ lw_all := lw_g (lw_at lw_m11 187 rfl) rfl
theorem q2842 : (Jvm.Cond.methodLink "WordTongue$Translator" (425 : Nat) ({ cls := "WordTongue$Translator", name := "counts", desc := "(LWordTongue$Node;)V" } : Jvm.MethodName)) ∈ lw_all := lw_g (lw_at lw_m11 188 rfl) rfl
theorem q2843 : (Jvm.Cond.privateMethod ({ cls := "WordTongue$Translator", name := "counts", desc := "(LWordTongue$Node;)V" } : Jvm.MethodName)) ∈ lw_tbl := lw_at lw_m11 189 rfl
theorem q2844 : (Jvm.Cond.instanceMethod ({ cls := "WordTongue$Translator", name := "counts", desc := "(LWordTongue$Node;)V" } : Jvm.MethodName)) ∈ lw_all := lw_g (lw_at lw_m11 190 rfl) rfl
theorem q2845 : (Jvm.Cond.code ({ cls := "WordTongue$Translator", name := "counts", desc := "(LWordTongue$Node;)V" } : Jvm.MethodName) prog_18_method_39_code (6 : Nat) (Option.none : Option Jvm.ClassFile.FieldType)) ∈ lw_all := lw_g (lw_at lw_m11 191 rfl) rfl
theorem q2846 : (Jvm.Cond.stringRef "WordTongue$Translator" (473 : Nat) "<") ∈ lw_tbl := lw_at lw_m11 192 rfl
theorem q2847 : (Jvm.Cond.stringRef "WordTongue$Translator" (475 : Nat) ">") ∈ lw_tbl := lw_at lw_m11 193 rfl
theorem q2848 : (Jvm.Cond.methodLink "WordTongue$Translator" (328 : Nat) ({ cls := "WordTongue$Translator", name := "close", desc := "()V" } : Jvm.MethodName)) ∈ lw_all := lw_g (lw_at lw_m11 194 rfl) rfl
theorem q2849 : (Jvm.Cond.privateMethod ({ cls := "WordTongue$Translator", name := "close", desc := "()V" } : Jvm.MethodName)) ∈ lw_tbl := lw_at lw_m11 195 rfl
theorem q2850 : (Jvm.Cond.instanceMethod ({ cls := "WordTongue$Translator", name := "close", desc := "()V" } : Jvm.MethodName)) ∈ lw_all := lw_g (lw_at lw_m11 196 rfl) rfl
theorem q2851 : (Jvm.Cond.code ({ cls := "WordTongue$Translator", name := "close", desc := "()V" } : Jvm.MethodName) prog_18_method_4_code (1 : Nat) (Option.none : Option Jvm.ClassFile.FieldType)) ∈ lw_all := lw_g (lw_at lw_m11 197 rfl) rfl
theorem q2852 : (Jvm.Cond.methodLink "WordTongue$Translator" (428 : Nat) ({ cls := "WordTongue$Translator", name := "chooses", desc := "(LWordTongue$Node;)V" } : Jvm.MethodName)) ∈ lw_all := lw_g (lw_at lw_m11 198 rfl) rfl
theorem q2853 : (Jvm.Cond.privateMethod ({ cls := "WordTongue$Translator", name := "chooses", desc := "(LWordTongue$Node;)V" } : Jvm.MethodName)) ∈ lw_tbl := lw_at lw_m11 199 rfl
theorem q2854 : (Jvm.Cond.instanceMethod ({ cls := "WordTongue$Translator", name := "chooses", desc := "(LWordTongue$Node;)V" } : Jvm.MethodName)) ∈ lw_all := lw_g (lw_at lw_m11 200 rfl) rfl
theorem q2855 : (Jvm.Cond.code ({ cls := "WordTongue$Translator", name := "chooses", desc := "(LWordTongue$Node;)V" } : Jvm.MethodName) prog_18_method_40_code (9 : Nat) (Option.none : Option Jvm.ClassFile.FieldType)) ∈ lw_all := lw_g (lw_at lw_m11 201 rfl) rfl
theorem q2856 : (Jvm.Cond.methodLink "WordTongue$Translator" (447 : Nat) ({ cls := "WordTongue$Translator", name := "labels", desc := "(LWordTongue$Node;)V" } : Jvm.MethodName)) ∈ lw_all := lw_g (lw_at lw_m11 202 rfl) rfl
theorem q2857 : (Jvm.Cond.privateMethod ({ cls := "WordTongue$Translator", name := "labels", desc := "(LWordTongue$Node;)V" } : Jvm.MethodName)) ∈ lw_tbl := lw_at lw_m11 203 rfl
theorem q2858 : (Jvm.Cond.instanceMethod ({ cls := "WordTongue$Translator", name := "labels", desc := "(LWordTongue$Node;)V" } : Jvm.MethodName)) ∈ lw_all := lw_g (lw_at lw_m11 204 rfl) rfl
theorem q2859 : (Jvm.Cond.code ({ cls := "WordTongue$Translator", name := "labels", desc := "(LWordTongue$Node;)V" } : Jvm.MethodName) prog_18_method_32_code (4 : Nat) (Option.none : Option Jvm.ClassFile.FieldType)) ∈ lw_all := lw_g (lw_at lw_m11 205 rfl) rfl
theorem q2860 : (Jvm.Cond.classLink "WordTongue$Translator" (477 : Nat) "java/util/HashSet") ∈ lw_all := lw_g (lw_at lw_m11 206 rfl) rfl
theorem q2861 : (Jvm.Cond.methodLink "WordTongue$Translator" (479 : Nat) ({ cls := "java/util/HashSet", name := "<init>", desc := "()V" } : Jvm.MethodName)) ∈ lw_all := lw_g (lw_at lw_m11 207 rfl) rfl
theorem q2862 : (Jvm.Cond.fieldLink "WordTongue$Translator" (480 : Nat) "WordTongue$Kind" "DEFAULT" "LWordTongue$Kind;") ∈ lw_all := lw_g (lw_at lw_m11 208 rfl) rfl
theorem q2863 : (Jvm.Cond.fieldLink "WordTongue$Translator" (483 : Nat) "WordTongue$Kind" "CASE" "LWordTongue$Kind;") ∈ lw_all := lw_g (lw_at lw_m11 209 rfl) rfl
theorem q2864 : (Jvm.Cond.interfaceEntry "WordTongue$Translator" (486 : Nat)) ∈ lw_tbl := lw_at lw_m11 210 rfl
theorem q2865 : (Jvm.Cond.methodLink "WordTongue$Translator" (486 : Nat) ({ cls := "java/util/Set", name := "add", desc := "(Ljava/lang/Object;)Z" } : Jvm.MethodName)) ∈ lw_all := lw_g (lw_at lw_m11 211 rfl) rfl
theorem q2866 : (Jvm.Cond.methodLink "WordTongue$Translator" (431 : Nat) ({ cls := "WordTongue$Translator", name := "goes", desc := "(Ljava/util/List;LWordTongue$Node;)V" } : Jvm.MethodName)) ∈ lw_all := lw_g (lw_at lw_m11 212 rfl) rfl
theorem q2867 : (Jvm.Cond.privateMethod ({ cls := "WordTongue$Translator", name := "goes", desc := "(Ljava/util/List;LWordTongue$Node;)V" } : Jvm.MethodName)) ∈ lw_tbl := lw_at lw_m11 213 rfl
theorem q2868 : (Jvm.Cond.instanceMethod ({ cls := "WordTongue$Translator", name := "goes", desc := "(Ljava/util/List;LWordTongue$Node;)V" } : Jvm.MethodName)) ∈ lw_all := lw_g (lw_at lw_m11 214 rfl) rfl
theorem q2869 : (Jvm.Cond.code ({ cls := "WordTongue$Translator", name := "goes", desc := "(Ljava/util/List;LWordTongue$Node;)V" } : Jvm.MethodName) prog_18_method_30_code (3 : Nat) (Option.none : Option Jvm.ClassFile.FieldType)) ∈ lw_all := lw_g (lw_at lw_m11 215 rfl) rfl
theorem q2870 : (Jvm.Cond.methodLink "WordTongue$Translator" (435 : Nat) ({ cls := "WordTongue$Translator", name := "jump", desc := "(LWordTongue$Node;)V" } : Jvm.MethodName)) ∈ lw_all := lw_g (lw_at lw_m11 216 rfl) rfl
theorem q2871 : (Jvm.Cond.privateMethod ({ cls := "WordTongue$Translator", name := "jump", desc := "(LWordTongue$Node;)V" } : Jvm.MethodName)) ∈ lw_tbl := lw_at lw_m11 217 rfl
theorem q2872 : (Jvm.Cond.instanceMethod ({ cls := "WordTongue$Translator", name := "jump", desc := "(LWordTongue$Node;)V" } : Jvm.MethodName)) ∈ lw_all := lw_g (lw_at lw_m11 218 rfl) rfl
theorem q2873 : (Jvm.Cond.code ({ cls := "WordTongue$Translator", name := "jump", desc := "(LWordTongue$Node;)V" } : Jvm.MethodName) prog_18_method_31_code (3 : Nat) (Option.none : Option Jvm.ClassFile.FieldType)) ∈ lw_all := lw_g (lw_at lw_m11 219 rfl) rfl
theorem q2874 : (Jvm.Cond.methodLink "WordTongue$Translator" (438 : Nat) ({ cls := "WordTongue$Translator", name := "block", desc := "(LWordTongue$Node;)V" } : Jvm.MethodName)) ∈ lw_all := lw_g (lw_at lw_m11 220 rfl) rfl
theorem q2875 : (Jvm.Cond.privateMethod ({ cls := "WordTongue$Translator", name := "block", desc := "(LWordTongue$Node;)V" } : Jvm.MethodName)) ∈ lw_tbl := lw_at lw_m11 221 rfl
theorem q2876 : (Jvm.Cond.instanceMethod ({ cls := "WordTongue$Translator", name := "block", desc := "(LWordTongue$Node;)V" } : Jvm.MethodName)) ∈ lw_all := lw_g (lw_at lw_m11 222 rfl) rfl
theorem q2877 : (Jvm.Cond.code ({ cls := "WordTongue$Translator", name := "block", desc := "(LWordTongue$Node;)V" } : Jvm.MethodName) prog_18_method_33_code (5 : Nat) (Option.none : Option Jvm.ClassFile.FieldType)) ∈ lw_all := lw_g (lw_at lw_m11 223 rfl) rfl
theorem q2878 : (Jvm.Cond.fieldLink "WordTongue$Translator" (449 : Nat) "WordTongue$Kind" "LET" "LWordTongue$Kind;") ∈ lw_all := lw_g (lw_at lw_m11 224 rfl) rfl
theorem q2879 : (Jvm.Cond.fieldLink "WordTongue$Translator" (452 : Nat) "WordTongue$Kind" "ROUTINES" "LWordTongue$Kind;") ∈ lw_all := lw_g (lw_at lw_m11 225 rfl) rfl
theorem q2880 : (Jvm.Cond.fieldLink "WordTongue$Translator" (257 : Nat) "WordTongue$Kind" "GLOBAL" "LWordTongue$Kind;") ∈ lw_all := lw_g (lw_at lw_m11 226 rfl) rfl
theorem q2881 : (Jvm.Cond.fieldLink "WordTongue$Translator" (252 : Nat) "WordTongue$Kind" "MANIFEST" "LWordTongue$Kind;") ∈ lw_all := lw_g (lw_at lw_m11 227 rfl) rfl
theorem q2882 : (Jvm.Cond.fieldLink "WordTongue$Translator" (263 : Nat) "WordTongue$Kind" "STATIC" "LWordTongue$Kind;") ∈ lw_all := lw_g (lw_at lw_m11 228 rfl) rfl
theorem q2883 : (Jvm.Cond.methodLink "WordTongue$Translator" (245 : Nat) ({ cls := "WordTongue$Translator", name := "variables", desc := "(LWordTongue$Listed;)V" } : Jvm.MethodName)) ∈ lw_all := lw_g (lw_at lw_m11 229 rfl) rfl
theorem q2884 : (Jvm.Cond.privateMethod ({ cls := "WordTongue$Translator", name := "variables", desc := "(LWordTongue$Listed;)V" } : Jvm.MethodName)) ∈ lw_tbl := lw_at lw_m11 230 rfl
theorem q2885 : (Jvm.Cond.instanceMethod ({ cls := "WordTongue$Translator", name := "variables", desc := "(LWordTongue$Listed;)V" } : Jvm.MethodName)) ∈ lw_all := lw_g (lw_at lw_m11 231 rfl) rfl
theorem q2886 : (Jvm.Cond.code ({ cls := "WordTongue$Translator", name := "variables", desc := "(LWordTongue$Listed;)V" } : Jvm.MethodName) prog_18_method_19_code (7 : Nat) (Option.none : Option Jvm.ClassFile.FieldType)) ∈ lw_all := lw_g (lw_at lw_m11 232 rfl) rfl
theorem q2887 : (Jvm.Cond.methodLink "WordTongue$Translator" (331 : Nat) ({ cls := "WordTongue$Listed", name := "parts", desc := "()I" } : Jvm.MethodName)) ∈ lw_all := lw_g (lw_at lw_m11 233 rfl) rfl
theorem q2891 : (Jvm.Cond.fieldLink "WordTongue$Translator" (333 : Nat) "WordTongue$Kind" "VEC" "LWordTongue$Kind;") ∈ lw_all := lw_g (lw_at lw_m11 237 rfl) rfl
theorem q2892 : (Jvm.Cond.methodLink "WordTongue$Translator" (249 : Nat) ({ cls := "WordTongue$Translator", name := "constants", desc := "(LWordTongue$Node;)V" } : Jvm.MethodName)) ∈ lw_all := lw_g (lw_at lw_m11 238 rfl) rfl
theorem q2893 : (Jvm.Cond.privateMethod ({ cls := "WordTongue$Translator", name := "constants", desc := "(LWordTongue$Node;)V" } : Jvm.MethodName)) ∈ lw_tbl := lw_at lw_m11 239 rfl
theorem q2894 : (Jvm.Cond.instanceMethod ({ cls := "WordTongue$Translator", name := "constants", desc := "(LWordTongue$Node;)V" } : Jvm.MethodName)) ∈ lw_all := lw_g (lw_at lw_m12 0 rfl) rfl
theorem q2895 : (Jvm.Cond.code ({ cls := "WordTongue$Translator", name := "constants", desc := "(LWordTongue$Node;)V" } : Jvm.MethodName) prog_18_method_16_code (8 : Nat) (Option.none : Option Jvm.ClassFile.FieldType)) ∈ lw_all := lw_g (lw_at lw_m12 1 rfl) rfl
theorem q4342 : (Jvm.Cond.castable "WordTongue$Translator" "java/lang/Object") ∈ lw_tbl := lw_at lw_m18 8 rfl
theorem in_X9 : ∀ w ∈ wsX90, w ∈ lw_all := lw_in wsX90 [1488, 1490, 1492, 1494, 1496, 1498, 1500, 1502, 1504, 1506, 1508, 1510, 1512, 1514, 1516, 1518] (by decide +kernel) (by decide +kernel)
/-! WordTongue$Lexer -/
set_option maxRecDepth 100000
def RX10 : String := "WordTongue$Lexer"
def TX10 : u_T := fun k => match k with
  | 0 => ("WordTongue$Lexer", "text", "[B", true)
  | 1 => ("WordTongue$Lexer", "size", "I", true)
  | 2 => ("WordTongue$Lexer", "at", "I", false)
  | 3 => ("WordTongue$Lexer", "line", "I", false)
  | 4 => ("WordTongue$Lexer", "tokens", "Ljava/util/List;", true)
  | _ => ("WordTongue$Lexer", "letters", "Ljava/lang/StringBuilder;", true)
def tyX10 : Nat → FieldType := fun k => match k with
  | 0 => .array .byte
  | 1 => .int
  | 2 => .int
  | 3 => .int
  | 4 => .object "java/util/List"
  | _ => .object "java/lang/StringBuilder"
abbrev wsX100 : List Cond := u_ws RX10 TX10 6
theorem nmX10 : ∀ a, a < 6 → ∀ b, b < 6 → a ≠ b → (TX10 a).2.1 ≠ (TX10 b).2.1 := by decide +kernel
theorem tyX10_ok : ∀ k, k < 6 → parseFieldDescriptor (TX10 k).2.2.1 = some (tyX10 k) := by decide +kernel
abbrev cX10_init : ByteArray := prog_6_method_1_code
def yX10_init : MethodName := ⟨RX10, "<init>", "([BI)V"⟩
abbrev cX10_all : ByteArray := prog_6_method_7_code
def yX10_all : MethodName := ⟨RX10, "all", "()V"⟩
abbrev cX10_blanks : ByteArray := prog_6_method_6_code
def yX10_blanks : MethodName := ⟨RX10, "blanks", "()V"⟩
abbrev cX10_peek : ByteArray := prog_6_method_2_code
def yX10_peek : MethodName := ⟨RX10, "peek", "(I)I"⟩
abbrev cX10_token : ByteArray := prog_6_method_9_code
def yX10_token : MethodName := ⟨RX10, "token", "()LWordTongue$Token;"⟩
abbrev cX10_isLetter : ByteArray := prog_6_method_3_code
def yX10_isLetter : MethodName := ⟨RX10, "isLetter", "(I)Z"⟩
abbrev cX10_name : ByteArray := prog_6_method_11_code
def yX10_name : MethodName := ⟨RX10, "name", "()LWordTongue$Token;"⟩
abbrev cX10_rest : ByteArray := prog_6_method_10_code
def yX10_rest : MethodName := ⟨RX10, "rest", "(I)Ljava/lang/String;"⟩
abbrev cX10_isDigit : ByteArray := prog_6_method_4_code
def yX10_isDigit : MethodName := ⟨RX10, "isDigit", "(I)Z"⟩
abbrev cX10_number : ByteArray := prog_6_method_12_code
def yX10_number : MethodName := ⟨RX10, "number", "()LWordTongue$Token;"⟩
abbrev cX10_digit : ByteArray := prog_6_method_13_code
def yX10_digit : MethodName := ⟨RX10, "digit", "(II)I"⟩
abbrev cX10_character : ByteArray := prog_6_method_15_code
def yX10_character : MethodName := ⟨RX10, "character", "()LWordTongue$Token;"⟩
abbrev cX10_one : ByteArray := prog_6_method_14_code
def yX10_one : MethodName := ⟨RX10, "one", "(I)I"⟩
abbrev cX10_string : ByteArray := prog_6_method_16_code
def yX10_string : MethodName := ⟨RX10, "string", "()LWordTongue$Token;"⟩
abbrev cX10_sign : ByteArray := prog_6_method_5_code
def yX10_sign : MethodName := ⟨RX10, "sign", "(II)Ljava/lang/String;"⟩
abbrev cX10_add : ByteArray := prog_6_method_8_code
def yX10_add : MethodName := ⟨RX10, "add", "(LWordTongue$Token;)V"⟩
theorem q287 : (Jvm.Cond.initialized "WordTongue$Lexer") ∈ lw_all := lw_g (lw_at lw_m1 33 rfl) rfl
theorem q685 : (Jvm.Cond.selects "WordTongue$Lexer" ({ cls := "java/lang/Object", name := "hashCode", desc := "()I" } : Jvm.MethodName) ({ cls := "java/lang/Object", name := "hashCode", desc := "()I" } : Jvm.MethodName)) ∈ lw_all := lw_g (lw_at lw_m2 191 rfl) rfl
theorem q830 : (Jvm.Cond.selects "WordTongue$Lexer" ({ cls := "java/lang/Object", name := "getClass", desc := "()Ljava/lang/Class;" } : Jvm.MethodName) ({ cls := "java/lang/Object", name := "getClass", desc := "()Ljava/lang/Class;" } : Jvm.MethodName)) ∈ lw_all := lw_g (lw_at lw_m3 96 rfl) rfl
theorem q1116 : (Jvm.Cond.selects "WordTongue$Lexer" ({ cls := "java/lang/Object", name := "equals", desc := "(Ljava/lang/Object;)Z" } : Jvm.MethodName) ({ cls := "java/lang/Object", name := "equals", desc := "(Ljava/lang/Object;)Z" } : Jvm.MethodName)) ∈ lw_all := lw_g (lw_at lw_m4 142 rfl) rfl
theorem q1522 : (Jvm.Cond.instantiable "WordTongue$Lexer" (6 : Nat)) ∈ lw_all := lw_g (lw_at lw_m6 68 rfl) rfl
theorem q1524 : (Jvm.Cond.instanceMethod ({ cls := "WordTongue$Lexer", name := "<init>", desc := "([BI)V" } : Jvm.MethodName)) ∈ lw_all := lw_g (lw_at lw_m6 70 rfl) rfl
theorem q1525 : (Jvm.Cond.code ({ cls := "WordTongue$Lexer", name := "<init>", desc := "([BI)V" } : Jvm.MethodName) prog_6_method_1_code (3 : Nat) (Option.none : Option Jvm.ClassFile.FieldType)) ∈ lw_all := lw_g (lw_at lw_m6 71 rfl) rfl
theorem q1526 : (Jvm.Cond.methodLink "WordTongue$Lexer" (3 : Nat) ({ cls := "java/lang/Object", name := "<init>", desc := "()V" } : Jvm.MethodName)) ∈ lw_all := lw_g (lw_at lw_m6 72 rfl) rfl
theorem q1527 : (Jvm.Cond.classLink "WordTongue$Lexer" (9 : Nat) "java/util/ArrayList") ∈ lw_all := lw_g (lw_at lw_m6 73 rfl) rfl
theorem q1528 : (Jvm.Cond.methodLink "WordTongue$Lexer" (11 : Nat) ({ cls := "java/util/ArrayList", name := "<init>", desc := "()V" } : Jvm.MethodName)) ∈ lw_all := lw_g (lw_at lw_m6 74 rfl) rfl
theorem q1529 : (Jvm.Cond.classLink "WordTongue$Lexer" (18 : Nat) "java/lang/StringBuilder") ∈ lw_all := lw_g (lw_at lw_m6 75 rfl) rfl
theorem q1531 : (Jvm.Cond.methodLink "WordTongue$Lexer" (20 : Nat) ({ cls := "java/lang/StringBuilder", name := "<init>", desc := "()V" } : Jvm.MethodName)) ∈ lw_all := lw_g (lw_at lw_m6 77 rfl) rfl
theorem q1554 : (Jvm.Cond.fieldLink "WordTongue$Lexer" (25 : Nat) "WordTongue$Lexer" "text" "[B") ∈ lw_all := lw_g (lw_at lw_m6 100 rfl) rfl
theorem q1555 : (Jvm.Cond.fieldLink "WordTongue$Lexer" (29 : Nat) "WordTongue$Lexer" "size" "I") ∈ lw_all := lw_g (lw_at lw_m6 101 rfl) rfl
theorem q1556 : (Jvm.Cond.fieldLink "WordTongue$Lexer" (33 : Nat) "WordTongue$Lexer" "at" "I") ∈ lw_all := lw_g (lw_at lw_m6 102 rfl) rfl
theorem q1557 : (Jvm.Cond.fieldLink "WordTongue$Lexer" (94 : Nat) "WordTongue$Lexer" "line" "I") ∈ lw_all := lw_g (lw_at lw_m6 103 rfl) rfl
theorem q1558 : (Jvm.Cond.fieldLink "WordTongue$Lexer" (12 : Nat) "WordTongue$Lexer" "tokens" "Ljava/util/List;") ∈ lw_all := lw_g (lw_at lw_m6 104 rfl) rfl
theorem q1560 : (Jvm.Cond.fieldLink "WordTongue$Lexer" (21 : Nat) "WordTongue$Lexer" "letters" "Ljava/lang/StringBuilder;") ∈ lw_all := lw_g (lw_at lw_m6 106 rfl) rfl
theorem q1561 : (Jvm.Cond.laysFinal "WordTongue$Lexer" "WordTongue$Lexer" "text" "[B") ∈ lw_all := lw_g (lw_at lw_m6 107 rfl) rfl
theorem q1562 : (Jvm.Cond.soleField "WordTongue$Lexer" "text") ∈ lw_all := lw_g (lw_at lw_m6 108 rfl) rfl
theorem q1563 : (Jvm.Cond.laysFinal "WordTongue$Lexer" "WordTongue$Lexer" "size" "I") ∈ lw_all := lw_g (lw_at lw_m6 109 rfl) rfl
theorem q1564 : (Jvm.Cond.soleField "WordTongue$Lexer" "size") ∈ lw_all := lw_g (lw_at lw_m6 110 rfl) rfl
theorem q1565 : (Jvm.Cond.lays "WordTongue$Lexer" "WordTongue$Lexer" "at" "I") ∈ lw_all := lw_g (lw_at lw_m6 111 rfl) rfl
theorem q1566 : (Jvm.Cond.soleField "WordTongue$Lexer" "at") ∈ lw_all := lw_g (lw_at lw_m6 112 rfl) rfl
theorem q1567 : (Jvm.Cond.lays "WordTongue$Lexer" "WordTongue$Lexer" "line" "I") ∈ lw_all := lw_g (lw_at lw_m6 113 rfl) rfl
theorem q1568 : (Jvm.Cond.soleField "WordTongue$Lexer" "line") ∈ lw_all := lw_g (lw_at lw_m6 114 rfl) rfl
theorem q1569 : (Jvm.Cond.laysFinal "WordTongue$Lexer" "WordTongue$Lexer" "tokens" "Ljava/util/List;") ∈ lw_all := lw_g (lw_at lw_m6 115 rfl) rfl
theorem q1570 : (Jvm.Cond.soleField "WordTongue$Lexer" "tokens") ∈ lw_all := lw_g (lw_at lw_m6 116 rfl) rfl
theorem q1571 : (Jvm.Cond.laysFinal "WordTongue$Lexer" "WordTongue$Lexer" "letters" "Ljava/lang/StringBuilder;") ∈ lw_all := lw_g (lw_at lw_m6 117 rfl) rfl
theorem q1572 : (Jvm.Cond.soleField "WordTongue$Lexer" "letters") ∈ lw_all := lw_g (lw_at lw_m6 118 rfl) rfl
theorem q1573 : (Jvm.Cond.superclass "WordTongue$Lexer" "java/lang/Object") ∈ lw_all := lw_g (lw_at lw_m6 119 rfl) rfl
theorem q1575 : (Jvm.Cond.instanceMethod ({ cls := "WordTongue$Lexer", name := "all", desc := "()V" } : Jvm.MethodName)) ∈ lw_all := lw_g (lw_at lw_m6 121 rfl) rfl
theorem q1576 : (Jvm.Cond.selects "WordTongue$Lexer" ({ cls := "WordTongue$Lexer", name := "all", desc := "()V" } : Jvm.MethodName) ({ cls := "WordTongue$Lexer", name := "all", desc := "()V" } : Jvm.MethodName)) ∈ lw_all := lw_g (lw_at lw_m6 122 rfl) rfl
theorem q1577 : (Jvm.Cond.codeWith ({ cls := "WordTongue$Lexer", name := "all", desc := "()V" } : Jvm.MethodName) prog_6_method_7_code (3 : Nat) (Option.none : Option Jvm.ClassFile.FieldType) [((4 : Nat), (42 : Nat), (45 : Nat), (111 : Nat))]) ∈ lw_all := lw_g (lw_at lw_m6 123 rfl) rfl
theorem q1578 : (Jvm.Cond.classLink "WordTongue$Lexer" (111 : Nat) "WordTongue$Misread") ∈ lw_all := lw_g (lw_at lw_m6 124 rfl) rfl
theorem q1579 : (Jvm.Cond.methodLink "WordTongue$Lexer" (97 : Nat) ({ cls := "WordTongue$Lexer", name := "blanks", desc := "()V" } : Jvm.MethodName)) ∈ lw_all := lw_g (lw_at lw_m6 125 rfl) rfl
theorem q1580 : (Jvm.Cond.privateMethod ({ cls := "WordTongue$Lexer", name := "blanks", desc := "()V" } : Jvm.MethodName)) ∈ lw_tbl := lw_at lw_m6 126 rfl
theorem q1581 : (Jvm.Cond.instanceMethod ({ cls := "WordTongue$Lexer", name := "blanks", desc := "()V" } : Jvm.MethodName)) ∈ lw_all := lw_g (lw_at lw_m6 127 rfl) rfl
theorem q1582 : (Jvm.Cond.code ({ cls := "WordTongue$Lexer", name := "blanks", desc := "()V" } : Jvm.MethodName) prog_6_method_6_code (2 : Nat) (Option.none : Option Jvm.ClassFile.FieldType)) ∈ lw_all := lw_g (lw_at lw_m6 128 rfl) rfl
theorem q1583 : (Jvm.Cond.methodLink "WordTongue$Lexer" (90 : Nat) ({ cls := "WordTongue$Lexer", name := "peek", desc := "(I)I" } : Jvm.MethodName)) ∈ lw_all := lw_g (lw_at lw_m6 129 rfl) rfl
theorem q1584 : (Jvm.Cond.privateMethod ({ cls := "WordTongue$Lexer", name := "peek", desc := "(I)I" } : Jvm.MethodName)) ∈ lw_tbl := lw_at lw_m6 130 rfl
theorem q1585 : (Jvm.Cond.instanceMethod ({ cls := "WordTongue$Lexer", name := "peek", desc := "(I)I" } : Jvm.MethodName)) ∈ lw_all := lw_g (lw_at lw_m6 131 rfl) rfl
theorem q1586 : (Jvm.Cond.code ({ cls := "WordTongue$Lexer", name := "peek", desc := "(I)I" } : Jvm.MethodName) prog_6_method_2_code (2 : Nat) (Option.some Jvm.ClassFile.FieldType.int)) ∈ lw_all := lw_g (lw_at lw_m6 132 rfl) rfl
theorem q1587 : (Jvm.Cond.classLink "WordTongue$Lexer" (100 : Nat) "WordTongue$Token") ∈ lw_all := lw_g (lw_at lw_m6 133 rfl) rfl
theorem q1589 : (Jvm.Cond.stringRef "WordTongue$Lexer" (102 : Nat) "") ∈ lw_tbl := lw_at lw_m6 135 rfl
theorem q1590 : (Jvm.Cond.methodLink "WordTongue$Lexer" (104 : Nat) ({ cls := "WordTongue$Token", name := "<init>", desc := "(IIIILjava/lang/String;)V" } : Jvm.MethodName)) ∈ lw_all := lw_g (lw_at lw_m6 136 rfl) rfl
theorem q1619 : (Jvm.Cond.fieldLink "WordTongue$Lexer" (120 : Nat) "WordTongue$Token" "kind" "I") ∈ lw_all := lw_g (lw_at lw_m6 165 rfl) rfl
theorem q1622 : (Jvm.Cond.fieldLink "WordTongue$Lexer" (147 : Nat) "WordTongue$Token" "place" "I") ∈ lw_all := lw_g (lw_at lw_m6 168 rfl) rfl
theorem q1625 : (Jvm.Cond.fieldLink "WordTongue$Lexer" (146 : Nat) "WordTongue$Token" "line" "I") ∈ lw_all := lw_g (lw_at lw_m6 171 rfl) rfl
theorem q1630 : (Jvm.Cond.fieldLink "WordTongue$Lexer" (136 : Nat) "WordTongue$Token" "text" "Ljava/lang/String;") ∈ lw_all := lw_g (lw_at lw_m6 176 rfl) rfl
theorem q1636 : (Jvm.Cond.fieldLink "WordTongue$Lexer" (186 : Nat) "WordTongue$Token" "tag" "Ljava/lang/String;") ∈ lw_all := lw_g (lw_at lw_m6 182 rfl) rfl
theorem q1652 : (Jvm.Cond.methodLink "WordTongue$Lexer" (107 : Nat) ({ cls := "WordTongue$Lexer", name := "token", desc := "()LWordTongue$Token;" } : Jvm.MethodName)) ∈ lw_all := lw_g (lw_at lw_m6 198 rfl) rfl
theorem q1653 : (Jvm.Cond.privateMethod ({ cls := "WordTongue$Lexer", name := "token", desc := "()LWordTongue$Token;" } : Jvm.MethodName)) ∈ lw_tbl := lw_at lw_m6 199 rfl
theorem q1654 : (Jvm.Cond.instanceMethod ({ cls := "WordTongue$Lexer", name := "token", desc := "()LWordTongue$Token;" } : Jvm.MethodName)) ∈ lw_all := lw_g (lw_at lw_m6 200 rfl) rfl
theorem q1655 : (Jvm.Cond.code ({ cls := "WordTongue$Lexer", name := "token", desc := "()LWordTongue$Token;" } : Jvm.MethodName) prog_6_method_9_code (4 : Nat) (Option.some (Jvm.ClassFile.FieldType.object "WordTongue$Token"))) ∈ lw_all := lw_g (lw_at lw_m6 201 rfl) rfl
theorem q1656 : (Jvm.Cond.methodLink "WordTongue$Lexer" (151 : Nat) ({ cls := "WordTongue$Lexer", name := "isLetter", desc := "(I)Z" } : Jvm.MethodName)) ∈ lw_all := lw_g (lw_at lw_m6 202 rfl) rfl
theorem q1657 : (Jvm.Cond.static ({ cls := "WordTongue$Lexer", name := "isLetter", desc := "(I)Z" } : Jvm.MethodName)) ∈ lw_all := lw_g (lw_at lw_m6 203 rfl) rfl
theorem q1658 : (Jvm.Cond.code ({ cls := "WordTongue$Lexer", name := "isLetter", desc := "(I)Z" } : Jvm.MethodName) prog_6_method_3_code (1 : Nat) (Option.some Jvm.ClassFile.FieldType.boolean)) ∈ lw_all := lw_g (lw_at lw_m6 204 rfl) rfl
theorem q1659 : (Jvm.Cond.methodLink "WordTongue$Lexer" (155 : Nat) ({ cls := "WordTongue$Lexer", name := "name", desc := "()LWordTongue$Token;" } : Jvm.MethodName)) ∈ lw_all := lw_g (lw_at lw_m6 205 rfl) rfl
theorem q1660 : (Jvm.Cond.privateMethod ({ cls := "WordTongue$Lexer", name := "name", desc := "()LWordTongue$Token;" } : Jvm.MethodName)) ∈ lw_tbl := lw_at lw_m6 206 rfl
theorem q1661 : (Jvm.Cond.instanceMethod ({ cls := "WordTongue$Lexer", name := "name", desc := "()LWordTongue$Token;" } : Jvm.MethodName)) ∈ lw_all := lw_g (lw_at lw_m6 207 rfl) rfl
theorem q1662 : (Jvm.Cond.code ({ cls := "WordTongue$Lexer", name := "name", desc := "()LWordTongue$Token;" } : Jvm.MethodName) prog_6_method_11_code (3 : Nat) (Option.some (Jvm.ClassFile.FieldType.object "WordTongue$Token"))) ∈ lw_all := lw_g (lw_at lw_m6 208 rfl) rfl
theorem q1663 : (Jvm.Cond.methodLink "WordTongue$Lexer" (182 : Nat) ({ cls := "WordTongue$Lexer", name := "rest", desc := "(I)Ljava/lang/String;" } : Jvm.MethodName)) ∈ lw_all := lw_g (lw_at lw_m6 209 rfl) rfl
theorem q1664 : (Jvm.Cond.privateMethod ({ cls := "WordTongue$Lexer", name := "rest", desc := "(I)Ljava/lang/String;" } : Jvm.MethodName)) ∈ lw_tbl := lw_at lw_m6 210 rfl
theorem q1665 : (Jvm.Cond.instanceMethod ({ cls := "WordTongue$Lexer", name := "rest", desc := "(I)Ljava/lang/String;" } : Jvm.MethodName)) ∈ lw_all := lw_g (lw_at lw_m6 211 rfl) rfl
theorem q1666 : (Jvm.Cond.code ({ cls := "WordTongue$Lexer", name := "rest", desc := "(I)Ljava/lang/String;" } : Jvm.MethodName) prog_6_method_10_code (3 : Nat) (Option.some (Jvm.ClassFile.FieldType.object "java/lang/String"))) ∈ lw_all := lw_g (lw_at lw_m6 212 rfl) rfl
theorem q1667 : (Jvm.Cond.methodLink "WordTongue$Lexer" (189 : Nat) ({ cls := "java/lang/StringBuilder", name := "setLength", desc := "(I)V" } : Jvm.MethodName)) ∈ lw_all := lw_g (lw_at lw_m6 213 rfl) rfl
theorem q1700 : (Jvm.Cond.methodLink "WordTongue$Lexer" (158 : Nat) ({ cls := "WordTongue$Lexer", name := "isDigit", desc := "(I)Z" } : Jvm.MethodName)) ∈ lw_all := lw_g (lw_at lw_m7 6 rfl) rfl
theorem q1701 : (Jvm.Cond.static ({ cls := "WordTongue$Lexer", name := "isDigit", desc := "(I)Z" } : Jvm.MethodName)) ∈ lw_all := lw_g (lw_at lw_m7 7 rfl) rfl
theorem q1702 : (Jvm.Cond.code ({ cls := "WordTongue$Lexer", name := "isDigit", desc := "(I)Z" } : Jvm.MethodName) prog_6_method_4_code (1 : Nat) (Option.some Jvm.ClassFile.FieldType.boolean)) ∈ lw_all := lw_g (lw_at lw_m7 8 rfl) rfl
theorem q1703 : (Jvm.Cond.methodLink "WordTongue$Lexer" (193 : Nat) ({ cls := "java/lang/StringBuilder", name := "append", desc := "(C)Ljava/lang/StringBuilder;" } : Jvm.MethodName)) ∈ lw_all := lw_g (lw_at lw_m7 9 rfl) rfl
theorem q1729 : (Jvm.Cond.methodLink "WordTongue$Lexer" (197 : Nat) ({ cls := "java/lang/StringBuilder", name := "length", desc := "()I" } : Jvm.MethodName)) ∈ lw_all := lw_g (lw_at lw_m7 35 rfl) rfl
theorem q1776 : (Jvm.Cond.methodLink "WordTongue$Lexer" (174 : Nat) ({ cls := "WordTongue$Misread", name := "<init>", desc := "(II)V" } : Jvm.MethodName)) ∈ lw_all := lw_g (lw_at lw_m7 82 rfl) rfl
theorem q1787 : (Jvm.Cond.fieldLink "WordTongue$Lexer" (113 : Nat) "WordTongue$Misread" "place" "I") ∈ lw_all := lw_g (lw_at lw_m7 93 rfl) rfl
theorem q1807 : (Jvm.Cond.methodLink "WordTongue$Lexer" (198 : Nat) ({ cls := "java/lang/StringBuilder", name := "toString", desc := "()Ljava/lang/String;" } : Jvm.MethodName)) ∈ lw_all := lw_g (lw_at lw_m7 113 rfl) rfl
theorem q1828 : (Jvm.Cond.methodLinkNest "WordTongue$Lexer" (202 : Nat) ({ cls := "WordTongue", name := "isKeyword", desc := "(Ljava/lang/String;)Z" } : Jvm.MethodName) "WordTongue") ∈ lw_tbl := lw_at lw_m7 134 rfl
theorem q1882 : (Jvm.Cond.methodLink "WordTongue$Lexer" (161 : Nat) ({ cls := "WordTongue$Lexer", name := "number", desc := "()LWordTongue$Token;" } : Jvm.MethodName)) ∈ lw_all := lw_g (lw_at lw_m7 188 rfl) rfl
theorem q1883 : (Jvm.Cond.privateMethod ({ cls := "WordTongue$Lexer", name := "number", desc := "()LWordTongue$Token;" } : Jvm.MethodName)) ∈ lw_tbl := lw_at lw_m7 189 rfl
theorem q1884 : (Jvm.Cond.instanceMethod ({ cls := "WordTongue$Lexer", name := "number", desc := "()LWordTongue$Token;" } : Jvm.MethodName)) ∈ lw_all := lw_g (lw_at lw_m7 190 rfl) rfl
theorem q1885 : (Jvm.Cond.code ({ cls := "WordTongue$Lexer", name := "number", desc := "()LWordTongue$Token;" } : Jvm.MethodName) prog_6_method_12_code (6 : Nat) (Option.some (Jvm.ClassFile.FieldType.object "WordTongue$Token"))) ∈ lw_all := lw_g (lw_at lw_m7 191 rfl) rfl
theorem q1886 : (Jvm.Cond.methodLink "WordTongue$Lexer" (205 : Nat) ({ cls := "WordTongue$Lexer", name := "digit", desc := "(II)I" } : Jvm.MethodName)) ∈ lw_all := lw_g (lw_at lw_m7 192 rfl) rfl
theorem q1887 : (Jvm.Cond.static ({ cls := "WordTongue$Lexer", name := "digit", desc := "(II)I" } : Jvm.MethodName)) ∈ lw_all := lw_g (lw_at lw_m7 193 rfl) rfl
theorem q1888 : (Jvm.Cond.code ({ cls := "WordTongue$Lexer", name := "digit", desc := "(II)I" } : Jvm.MethodName) prog_6_method_13_code (3 : Nat) (Option.some Jvm.ClassFile.FieldType.int)) ∈ lw_all := lw_g (lw_at lw_m7 194 rfl) rfl
theorem q1889 : (Jvm.Cond.constantLong "WordTongue$Lexer" (209 : Nat) (4294967296 : Int64)) ∈ lw_all := lw_g (lw_at lw_m7 195 rfl) rfl
theorem q1890 : (Jvm.Cond.methodLink "WordTongue$Lexer" (164 : Nat) ({ cls := "WordTongue$Lexer", name := "character", desc := "()LWordTongue$Token;" } : Jvm.MethodName)) ∈ lw_all := lw_g (lw_at lw_m7 196 rfl) rfl
theorem q1891 : (Jvm.Cond.privateMethod ({ cls := "WordTongue$Lexer", name := "character", desc := "()LWordTongue$Token;" } : Jvm.MethodName)) ∈ lw_tbl := lw_at lw_m7 197 rfl
theorem q1892 : (Jvm.Cond.instanceMethod ({ cls := "WordTongue$Lexer", name := "character", desc := "()LWordTongue$Token;" } : Jvm.MethodName)) ∈ lw_all := lw_g (lw_at lw_m7 198 rfl) rfl
theorem q1893 : (Jvm.Cond.code ({ cls := "WordTongue$Lexer", name := "character", desc := "()LWordTongue$Token;" } : Jvm.MethodName) prog_6_method_15_code (3 : Nat) (Option.some (Jvm.ClassFile.FieldType.object "WordTongue$Token"))) ∈ lw_all := lw_g (lw_at lw_m7 199 rfl) rfl
theorem q1894 : (Jvm.Cond.methodLink "WordTongue$Lexer" (221 : Nat) ({ cls := "WordTongue$Lexer", name := "one", desc := "(I)I" } : Jvm.MethodName)) ∈ lw_all := lw_g (lw_at lw_m7 200 rfl) rfl
theorem q1895 : (Jvm.Cond.privateMethod ({ cls := "WordTongue$Lexer", name := "one", desc := "(I)I" } : Jvm.MethodName)) ∈ lw_tbl := lw_at lw_m7 201 rfl
theorem q1896 : (Jvm.Cond.instanceMethod ({ cls := "WordTongue$Lexer", name := "one", desc := "(I)I" } : Jvm.MethodName)) ∈ lw_all := lw_g (lw_at lw_m7 202 rfl) rfl
theorem q1897 : (Jvm.Cond.code ({ cls := "WordTongue$Lexer", name := "one", desc := "(I)I" } : Jvm.MethodName) prog_6_method_14_code (4 : Nat) (Option.some Jvm.ClassFile.FieldType.int)) ∈ lw_all := lw_g (lw_at lw_m7 203 rfl) rfl
theorem q1898 : (Jvm.Cond.stringRef "WordTongue$Lexer" (211 : Nat) "NST'\"*") ∈ lw_tbl := lw_at lw_m7 204 rfl
theorem q1899 : (Jvm.Cond.methodLink "WordTongue$Lexer" (213 : Nat) ({ cls := "java/lang/Math", name := "max", desc := "(II)I" } : Jvm.MethodName)) ∈ lw_all := lw_g (lw_at lw_m7 205 rfl) rfl
theorem q1900 : (Jvm.Cond.methodLink "WordTongue$Lexer" (218 : Nat) ({ cls := "java/lang/String", name := "indexOf", desc := "(I)I" } : Jvm.MethodName)) ∈ lw_all := lw_g (lw_at lw_m7 206 rfl) rfl
theorem q1947 : (Jvm.Cond.methodLink "WordTongue$Lexer" (167 : Nat) ({ cls := "WordTongue$Lexer", name := "string", desc := "()LWordTongue$Token;" } : Jvm.MethodName)) ∈ lw_all := lw_g (lw_at lw_m8 13 rfl) rfl
theorem q1948 : (Jvm.Cond.privateMethod ({ cls := "WordTongue$Lexer", name := "string", desc := "()LWordTongue$Token;" } : Jvm.MethodName)) ∈ lw_tbl := lw_at lw_m8 14 rfl
theorem q1949 : (Jvm.Cond.instanceMethod ({ cls := "WordTongue$Lexer", name := "string", desc := "()LWordTongue$Token;" } : Jvm.MethodName)) ∈ lw_all := lw_g (lw_at lw_m8 15 rfl) rfl
theorem q1950 : (Jvm.Cond.code ({ cls := "WordTongue$Lexer", name := "string", desc := "()LWordTongue$Token;" } : Jvm.MethodName) prog_6_method_16_code (4 : Nat) (Option.some (Jvm.ClassFile.FieldType.object "WordTongue$Token"))) ∈ lw_all := lw_g (lw_at lw_m8 16 rfl) rfl
theorem q1951 : (Jvm.Cond.methodLink "WordTongue$Lexer" (170 : Nat) ({ cls := "WordTongue$Lexer", name := "sign", desc := "(II)Ljava/lang/String;" } : Jvm.MethodName)) ∈ lw_all := lw_g (lw_at lw_m8 17 rfl) rfl
theorem q1952 : (Jvm.Cond.static ({ cls := "WordTongue$Lexer", name := "sign", desc := "(II)Ljava/lang/String;" } : Jvm.MethodName)) ∈ lw_all := lw_g (lw_at lw_m8 18 rfl) rfl
theorem q1953 : (Jvm.Cond.code ({ cls := "WordTongue$Lexer", name := "sign", desc := "(II)Ljava/lang/String;" } : Jvm.MethodName) prog_6_method_5_code (2 : Nat) (Option.some (Jvm.ClassFile.FieldType.object "java/lang/String"))) ∈ lw_all := lw_g (lw_at lw_m8 19 rfl) rfl
theorem q1954 : (Jvm.Cond.stringRef "WordTongue$Lexer" (36 : Nat) "$(") ∈ lw_tbl := lw_at lw_m8 20 rfl
theorem q1955 : (Jvm.Cond.stringRef "WordTongue$Lexer" (38 : Nat) "$)") ∈ lw_tbl := lw_at lw_m8 21 rfl
theorem q1956 : (Jvm.Cond.stringRef "WordTongue$Lexer" (40 : Nat) ":=") ∈ lw_tbl := lw_at lw_m8 22 rfl
theorem q1957 : (Jvm.Cond.stringRef "WordTongue$Lexer" (42 : Nat) ":") ∈ lw_tbl := lw_at lw_m8 23 rfl
theorem q1958 : (Jvm.Cond.stringRef "WordTongue$Lexer" (44 : Nat) "~=") ∈ lw_tbl := lw_at lw_m8 24 rfl
theorem q1959 : (Jvm.Cond.stringRef "WordTongue$Lexer" (46 : Nat) "~") ∈ lw_tbl := lw_at lw_m8 25 rfl
theorem q1960 : (Jvm.Cond.stringRef "WordTongue$Lexer" (48 : Nat) "<=") ∈ lw_tbl := lw_at lw_m8 26 rfl
theorem q1961 : (Jvm.Cond.stringRef "WordTongue$Lexer" (50 : Nat) "<<") ∈ lw_tbl := lw_at lw_m8 27 rfl
theorem q1962 : (Jvm.Cond.stringRef "WordTongue$Lexer" (52 : Nat) "<") ∈ lw_tbl := lw_at lw_m8 28 rfl
theorem q1963 : (Jvm.Cond.stringRef "WordTongue$Lexer" (54 : Nat) ">=") ∈ lw_tbl := lw_at lw_m8 29 rfl
theorem q1964 : (Jvm.Cond.stringRef "WordTongue$Lexer" (56 : Nat) ">>") ∈ lw_tbl := lw_at lw_m8 30 rfl
theorem q1965 : (Jvm.Cond.stringRef "WordTongue$Lexer" (58 : Nat) ">") ∈ lw_tbl := lw_at lw_m8 31 rfl
theorem q1966 : (Jvm.Cond.stringRef "WordTongue$Lexer" (60 : Nat) "->") ∈ lw_tbl := lw_at lw_m8 32 rfl
theorem q1967 : (Jvm.Cond.stringRef "WordTongue$Lexer" (62 : Nat) "-") ∈ lw_tbl := lw_at lw_m8 33 rfl
theorem q1968 : (Jvm.Cond.stringRef "WordTongue$Lexer" (64 : Nat) "(") ∈ lw_tbl := lw_at lw_m8 34 rfl
theorem q1969 : (Jvm.Cond.stringRef "WordTongue$Lexer" (66 : Nat) ")") ∈ lw_tbl := lw_at lw_m8 35 rfl
theorem q1970 : (Jvm.Cond.stringRef "WordTongue$Lexer" (68 : Nat) ",") ∈ lw_tbl := lw_at lw_m8 36 rfl
theorem q1971 : (Jvm.Cond.stringRef "WordTongue$Lexer" (70 : Nat) ";") ∈ lw_tbl := lw_at lw_m8 37 rfl
theorem q1972 : (Jvm.Cond.stringRef "WordTongue$Lexer" (72 : Nat) "!") ∈ lw_tbl := lw_at lw_m8 38 rfl
theorem q1973 : (Jvm.Cond.stringRef "WordTongue$Lexer" (74 : Nat) "%") ∈ lw_tbl := lw_at lw_m8 39 rfl
theorem q1974 : (Jvm.Cond.stringRef "WordTongue$Lexer" (76 : Nat) "@") ∈ lw_tbl := lw_at lw_m8 40 rfl
theorem q1975 : (Jvm.Cond.stringRef "WordTongue$Lexer" (78 : Nat) "+") ∈ lw_tbl := lw_at lw_m8 41 rfl
theorem q1976 : (Jvm.Cond.stringRef "WordTongue$Lexer" (80 : Nat) "*") ∈ lw_tbl := lw_at lw_m8 42 rfl
theorem q1977 : (Jvm.Cond.stringRef "WordTongue$Lexer" (82 : Nat) "/") ∈ lw_tbl := lw_at lw_m8 43 rfl
theorem q1978 : (Jvm.Cond.stringRef "WordTongue$Lexer" (84 : Nat) "=") ∈ lw_tbl := lw_at lw_m8 44 rfl
theorem q1979 : (Jvm.Cond.stringRef "WordTongue$Lexer" (86 : Nat) "&") ∈ lw_tbl := lw_at lw_m8 45 rfl
theorem q1980 : (Jvm.Cond.stringRef "WordTongue$Lexer" (88 : Nat) "|") ∈ lw_tbl := lw_at lw_m8 46 rfl
theorem q1981 : (Jvm.Cond.methodLink "WordTongue$Lexer" (177 : Nat) ({ cls := "java/lang/String", name := "length", desc := "()I" } : Jvm.MethodName)) ∈ lw_all := lw_g (lw_at lw_m8 47 rfl) rfl
theorem q1982 : (Jvm.Cond.methodLink "WordTongue$Lexer" (116 : Nat) ({ cls := "WordTongue$Lexer", name := "add", desc := "(LWordTongue$Token;)V" } : Jvm.MethodName)) ∈ lw_all := lw_g (lw_at lw_m8 48 rfl) rfl
theorem q1983 : (Jvm.Cond.privateMethod ({ cls := "WordTongue$Lexer", name := "add", desc := "(LWordTongue$Token;)V" } : Jvm.MethodName)) ∈ lw_tbl := lw_at lw_m8 49 rfl
theorem q1984 : (Jvm.Cond.instanceMethod ({ cls := "WordTongue$Lexer", name := "add", desc := "(LWordTongue$Token;)V" } : Jvm.MethodName)) ∈ lw_all := lw_g (lw_at lw_m8 50 rfl) rfl
theorem q1985 : (Jvm.Cond.code ({ cls := "WordTongue$Lexer", name := "add", desc := "(LWordTongue$Token;)V" } : Jvm.MethodName) prog_6_method_8_code (5 : Nat) (Option.none : Option Jvm.ClassFile.FieldType)) ∈ lw_all := lw_g (lw_at lw_m8 51 rfl) rfl
theorem q1986 : (Jvm.Cond.interfaceEntry "WordTongue$Lexer" (123 : Nat)) ∈ lw_tbl := lw_at lw_m8 52 rfl
theorem q1987 : (Jvm.Cond.methodLink "WordTongue$Lexer" (123 : Nat) ({ cls := "java/util/List", name := "isEmpty", desc := "()Z" } : Jvm.MethodName)) ∈ lw_all := lw_g (lw_at lw_m8 53 rfl) rfl
theorem q1995 : (Jvm.Cond.interfaceEntry "WordTongue$Lexer" (129 : Nat)) ∈ lw_tbl := lw_at lw_m8 61 rfl
theorem q1996 : (Jvm.Cond.methodLink "WordTongue$Lexer" (129 : Nat) ({ cls := "java/util/List", name := "size", desc := "()I" } : Jvm.MethodName)) ∈ lw_all := lw_g (lw_at lw_m8 62 rfl) rfl
theorem q2004 : (Jvm.Cond.interfaceEntry "WordTongue$Lexer" (132 : Nat)) ∈ lw_tbl := lw_at lw_m8 70 rfl
theorem q2005 : (Jvm.Cond.methodLink "WordTongue$Lexer" (132 : Nat) ({ cls := "java/util/List", name := "get", desc := "(I)Ljava/lang/Object;" } : Jvm.MethodName)) ∈ lw_all := lw_g (lw_at lw_m8 71 rfl) rfl
theorem q2021 : (Jvm.Cond.methodLinkNest "WordTongue$Lexer" (139 : Nat) ({ cls := "WordTongue", name := "ends", desc := "(Ljava/lang/String;)Z" } : Jvm.MethodName) "WordTongue") ∈ lw_tbl := lw_at lw_m8 87 rfl
theorem q2022 : (Jvm.Cond.methodLinkNest "WordTongue$Lexer" (143 : Nat) ({ cls := "WordTongue", name := "begins", desc := "(Ljava/lang/String;)Z" } : Jvm.MethodName) "WordTongue") ∈ lw_tbl := lw_at lw_m8 88 rfl
theorem q2023 : (Jvm.Cond.interfaceEntry "WordTongue$Lexer" (148 : Nat)) ∈ lw_tbl := lw_at lw_m8 89 rfl
theorem q2024 : (Jvm.Cond.methodLink "WordTongue$Lexer" (148 : Nat) ({ cls := "java/util/List", name := "add", desc := "(Ljava/lang/Object;)Z" } : Jvm.MethodName)) ∈ lw_all := lw_g (lw_at lw_m8 90 rfl) rfl
theorem q4344 : (Jvm.Cond.castable "WordTongue$Lexer" "java/lang/Object") ∈ lw_tbl := lw_at lw_m18 10 rfl
theorem in_X10 : ∀ w ∈ wsX100, w ∈ lw_all := lw_in wsX100 [1561, 1563, 1565, 1567, 1569, 1571] (by decide +kernel) (by decide +kernel)
/-! WordTongue$Token -/
set_option maxRecDepth 100000
def RX11 : String := "WordTongue$Token"
def TX11 : u_T := fun k => match k with
  | 0 => ("WordTongue$Token", "kind", "I", true)
  | 1 => ("WordTongue$Token", "place", "I", true)
  | 2 => ("WordTongue$Token", "line", "I", true)
  | 3 => ("WordTongue$Token", "value", "I", true)
  | 4 => ("WordTongue$Token", "text", "Ljava/lang/String;", true)
  | 5 => ("WordTongue$Token", "level", "I", true)
  | _ => ("WordTongue$Token", "tag", "Ljava/lang/String;", false)
def tyX11 : Nat → FieldType := fun k => match k with
  | 0 => .int
  | 1 => .int
  | 2 => .int
  | 3 => .int
  | 4 => .object "java/lang/String"
  | 5 => .int
  | _ => .object "java/lang/String"
abbrev wsX110 : List Cond := u_ws RX11 TX11 7
theorem nmX11 : ∀ a, a < 7 → ∀ b, b < 7 → a ≠ b → (TX11 a).2.1 ≠ (TX11 b).2.1 := by decide +kernel
theorem tyX11_ok : ∀ k, k < 7 → parseFieldDescriptor (TX11 k).2.2.1 = some (tyX11 k) := by decide +kernel
abbrev cX11_init : ByteArray := prog_17_method_1_code
def yX11_init : MethodName := ⟨RX11, "<init>", "(IIIILjava/lang/String;)V"⟩
theorem q290 : (Jvm.Cond.initialized "WordTongue$Token") ∈ lw_all := lw_g (lw_at lw_m1 36 rfl) rfl
theorem q696 : (Jvm.Cond.selects "WordTongue$Token" ({ cls := "java/lang/Object", name := "hashCode", desc := "()I" } : Jvm.MethodName) ({ cls := "java/lang/Object", name := "hashCode", desc := "()I" } : Jvm.MethodName)) ∈ lw_all := lw_g (lw_at lw_m2 202 rfl) rfl
theorem q841 : (Jvm.Cond.selects "WordTongue$Token" ({ cls := "java/lang/Object", name := "getClass", desc := "()Ljava/lang/Class;" } : Jvm.MethodName) ({ cls := "java/lang/Object", name := "getClass", desc := "()Ljava/lang/Class;" } : Jvm.MethodName)) ∈ lw_all := lw_g (lw_at lw_m3 107 rfl) rfl
theorem q1127 : (Jvm.Cond.selects "WordTongue$Token" ({ cls := "java/lang/Object", name := "equals", desc := "(Ljava/lang/Object;)Z" } : Jvm.MethodName) ({ cls := "java/lang/Object", name := "equals", desc := "(Ljava/lang/Object;)Z" } : Jvm.MethodName)) ∈ lw_all := lw_g (lw_at lw_m4 153 rfl) rfl
theorem q1588 : (Jvm.Cond.instantiable "WordTongue$Token" (7 : Nat)) ∈ lw_all := lw_g (lw_at lw_m6 134 rfl) rfl
theorem q1591 : (Jvm.Cond.instanceMethod ({ cls := "WordTongue$Token", name := "<init>", desc := "(IIIILjava/lang/String;)V" } : Jvm.MethodName)) ∈ lw_all := lw_g (lw_at lw_m6 137 rfl) rfl
theorem q1592 : (Jvm.Cond.code ({ cls := "WordTongue$Token", name := "<init>", desc := "(IIIILjava/lang/String;)V" } : Jvm.MethodName) prog_17_method_1_code (6 : Nat) (Option.none : Option Jvm.ClassFile.FieldType)) ∈ lw_all := lw_g (lw_at lw_m6 138 rfl) rfl
theorem q1593 : (Jvm.Cond.methodLink "WordTongue$Token" (3 : Nat) ({ cls := "java/lang/Object", name := "<init>", desc := "()V" } : Jvm.MethodName)) ∈ lw_all := lw_g (lw_at lw_m6 139 rfl) rfl
theorem q1594 : (Jvm.Cond.stringRef "WordTongue$Token" (9 : Nat) "") ∈ lw_tbl := lw_at lw_m6 140 rfl
theorem q1595 : (Jvm.Cond.methodLinkNest "WordTongue$Token" (33 : Nat) ({ cls := "WordTongue", name := "levelOf", desc := "(Ljava/lang/String;)I" } : Jvm.MethodName) "WordTongue") ∈ lw_tbl := lw_at lw_m6 141 rfl
theorem q1617 : (Jvm.Cond.fieldLink "WordTongue$Token" (17 : Nat) "WordTongue$Token" "kind" "I") ∈ lw_all := lw_g (lw_at lw_m6 163 rfl) rfl
theorem q1620 : (Jvm.Cond.fieldLink "WordTongue$Token" (21 : Nat) "WordTongue$Token" "place" "I") ∈ lw_all := lw_g (lw_at lw_m6 166 rfl) rfl
theorem q1624 : (Jvm.Cond.fieldLink "WordTongue$Token" (24 : Nat) "WordTongue$Token" "line" "I") ∈ lw_all := lw_g (lw_at lw_m6 170 rfl) rfl
theorem q1626 : (Jvm.Cond.fieldLink "WordTongue$Token" (27 : Nat) "WordTongue$Token" "value" "I") ∈ lw_all := lw_g (lw_at lw_m6 172 rfl) rfl
theorem q1628 : (Jvm.Cond.fieldLink "WordTongue$Token" (30 : Nat) "WordTongue$Token" "text" "Ljava/lang/String;") ∈ lw_all := lw_g (lw_at lw_m6 174 rfl) rfl
theorem q1632 : (Jvm.Cond.fieldLink "WordTongue$Token" (37 : Nat) "WordTongue$Token" "level" "I") ∈ lw_all := lw_g (lw_at lw_m6 178 rfl) rfl
theorem q1634 : (Jvm.Cond.fieldLink "WordTongue$Token" (11 : Nat) "WordTongue$Token" "tag" "Ljava/lang/String;") ∈ lw_all := lw_g (lw_at lw_m6 180 rfl) rfl
theorem q1637 : (Jvm.Cond.laysFinal "WordTongue$Token" "WordTongue$Token" "kind" "I") ∈ lw_all := lw_g (lw_at lw_m6 183 rfl) rfl
theorem q1638 : (Jvm.Cond.soleField "WordTongue$Token" "kind") ∈ lw_all := lw_g (lw_at lw_m6 184 rfl) rfl
theorem q1639 : (Jvm.Cond.laysFinal "WordTongue$Token" "WordTongue$Token" "place" "I") ∈ lw_all := lw_g (lw_at lw_m6 185 rfl) rfl
theorem q1640 : (Jvm.Cond.soleField "WordTongue$Token" "place") ∈ lw_all := lw_g (lw_at lw_m6 186 rfl) rfl
theorem q1641 : (Jvm.Cond.laysFinal "WordTongue$Token" "WordTongue$Token" "line" "I") ∈ lw_all := lw_g (lw_at lw_m6 187 rfl) rfl
theorem q1642 : (Jvm.Cond.soleField "WordTongue$Token" "line") ∈ lw_all := lw_g (lw_at lw_m6 188 rfl) rfl
theorem q1643 : (Jvm.Cond.laysFinal "WordTongue$Token" "WordTongue$Token" "value" "I") ∈ lw_all := lw_g (lw_at lw_m6 189 rfl) rfl
theorem q1644 : (Jvm.Cond.soleField "WordTongue$Token" "value") ∈ lw_all := lw_g (lw_at lw_m6 190 rfl) rfl
theorem q1645 : (Jvm.Cond.laysFinal "WordTongue$Token" "WordTongue$Token" "text" "Ljava/lang/String;") ∈ lw_all := lw_g (lw_at lw_m6 191 rfl) rfl
theorem q1646 : (Jvm.Cond.soleField "WordTongue$Token" "text") ∈ lw_all := lw_g (lw_at lw_m6 192 rfl) rfl
theorem q1647 : (Jvm.Cond.laysFinal "WordTongue$Token" "WordTongue$Token" "level" "I") ∈ lw_all := lw_g (lw_at lw_m6 193 rfl) rfl
theorem q1648 : (Jvm.Cond.soleField "WordTongue$Token" "level") ∈ lw_all := lw_g (lw_at lw_m6 194 rfl) rfl
theorem q1649 : (Jvm.Cond.lays "WordTongue$Token" "WordTongue$Token" "tag" "Ljava/lang/String;") ∈ lw_all := lw_g (lw_at lw_m6 195 rfl) rfl
theorem q1650 : (Jvm.Cond.soleField "WordTongue$Token" "tag") ∈ lw_all := lw_g (lw_at lw_m6 196 rfl) rfl
theorem q1651 : (Jvm.Cond.superclass "WordTongue$Token" "java/lang/Object") ∈ lw_all := lw_g (lw_at lw_m6 197 rfl) rfl
theorem q4346 : (Jvm.Cond.castable "WordTongue$Token" "java/lang/Object") ∈ lw_tbl := lw_at lw_m18 12 rfl
theorem in_X11 : ∀ w ∈ wsX110, w ∈ lw_all := lw_in wsX110 [1637, 1639, 1641, 1643, 1645, 1647, 1649] (by decide +kernel) (by decide +kernel)
/-! WordTongue$Misread -/
set_option maxRecDepth 100000
def RX12 : String := "WordTongue$Misread"
def TX12 : u_T := fun k => match k with
  | 0 => ("java/lang/Throwable", "cause", "Ljava/lang/Throwable;", false)
  | 1 => ("java/lang/Throwable", "stackTrace", "[Ljava/lang/StackTraceElement;", false)
  | 2 => ("java/lang/Throwable", "suppressedExceptions", "Ljava/util/List;", false)
  | 3 => ("java/lang/Throwable", "detailMessage", "Ljava/lang/String;", false)
  | 4 => ("java/lang/Throwable", "backtrace", "Ljava/lang/Object;", false)
  | 5 => ("java/lang/Throwable", "depth", "I", false)
  | 6 => ("WordTongue$Misread", "place", "I", true)
  | _ => ("WordTongue$Misread", "fault", "I", true)
def tyX12 : Nat → FieldType := fun k => match k with
  | 0 => .object "java/lang/Throwable"
  | 1 => .array (.object "java/lang/StackTraceElement")
  | 2 => .object "java/util/List"
  | 3 => .object "java/lang/String"
  | 4 => .object "java/lang/Object"
  | 5 => .int
  | 6 => .int
  | _ => .int
abbrev wsX120 : List Cond := u_ws RX12 TX12 8
theorem nmX12 : ∀ a, a < 8 → ∀ b, b < 8 → a ≠ b → (TX12 a).2.1 ≠ (TX12 b).2.1 := by decide +kernel
theorem tyX12_ok : ∀ k, k < 8 → parseFieldDescriptor (TX12 k).2.2.1 = some (tyX12 k) := by decide +kernel
abbrev cX12_init : ByteArray := prog_10_method_1_code
def yX12_init : MethodName := ⟨RX12, "<init>", "(II)V"⟩
theorem q294 : (Jvm.Cond.initialized "WordTongue$Misread") ∈ lw_all := lw_g (lw_at lw_m1 40 rfl) rfl
theorem q689 : (Jvm.Cond.selects "WordTongue$Misread" ({ cls := "java/lang/Object", name := "hashCode", desc := "()I" } : Jvm.MethodName) ({ cls := "java/lang/Object", name := "hashCode", desc := "()I" } : Jvm.MethodName)) ∈ lw_all := lw_g (lw_at lw_m2 195 rfl) rfl
theorem q834 : (Jvm.Cond.selects "WordTongue$Misread" ({ cls := "java/lang/Object", name := "getClass", desc := "()Ljava/lang/Class;" } : Jvm.MethodName) ({ cls := "java/lang/Object", name := "getClass", desc := "()Ljava/lang/Class;" } : Jvm.MethodName)) ∈ lw_all := lw_g (lw_at lw_m3 100 rfl) rfl
theorem q1120 : (Jvm.Cond.selects "WordTongue$Misread" ({ cls := "java/lang/Object", name := "equals", desc := "(Ljava/lang/Object;)Z" } : Jvm.MethodName) ({ cls := "java/lang/Object", name := "equals", desc := "(Ljava/lang/Object;)Z" } : Jvm.MethodName)) ∈ lw_all := lw_g (lw_at lw_m4 146 rfl) rfl
theorem q1736 : (Jvm.Cond.instantiable "WordTongue$Misread" (8 : Nat)) ∈ lw_all := lw_g (lw_at lw_m7 42 rfl) rfl
theorem q1737 : (Jvm.Cond.castable "WordTongue$Misread" "WordTongue$Misread") ∈ lw_tbl := lw_at lw_m7 43 rfl
theorem q1744 : (Jvm.Cond.selects "WordTongue$Misread" ({ cls := "java/lang/Throwable", name := "fillInStackTrace", desc := "(I)Ljava/lang/Throwable;" } : Jvm.MethodName) ({ cls := "java/lang/Throwable", name := "fillInStackTrace", desc := "(I)Ljava/lang/Throwable;" } : Jvm.MethodName)) ∈ lw_all := lw_g (lw_at lw_m7 50 rfl) rfl
theorem q1745 : (Jvm.Cond.selects "WordTongue$Misread" ({ cls := "java/lang/Throwable", name := "fillInStackTrace", desc := "()Ljava/lang/Throwable;" } : Jvm.MethodName) ({ cls := "java/lang/Throwable", name := "fillInStackTrace", desc := "()Ljava/lang/Throwable;" } : Jvm.MethodName)) ∈ lw_all := lw_g (lw_at lw_m7 51 rfl) rfl
theorem q1746 : (Jvm.Cond.lays "WordTongue$Misread" "java/lang/Throwable" "cause" "Ljava/lang/Throwable;") ∈ lw_all := lw_g (lw_at lw_m7 52 rfl) rfl
theorem q1748 : (Jvm.Cond.lays "WordTongue$Misread" "java/lang/Throwable" "stackTrace" "[Ljava/lang/StackTraceElement;") ∈ lw_all := lw_g (lw_at lw_m7 54 rfl) rfl
theorem q1750 : (Jvm.Cond.lays "WordTongue$Misread" "java/lang/Throwable" "suppressedExceptions" "Ljava/util/List;") ∈ lw_all := lw_g (lw_at lw_m7 56 rfl) rfl
theorem q1752 : (Jvm.Cond.lays "WordTongue$Misread" "java/lang/Throwable" "detailMessage" "Ljava/lang/String;") ∈ lw_all := lw_g (lw_at lw_m7 58 rfl) rfl
theorem q1754 : (Jvm.Cond.lays "WordTongue$Misread" "java/lang/Throwable" "backtrace" "Ljava/lang/Object;") ∈ lw_all := lw_g (lw_at lw_m7 60 rfl) rfl
theorem q1777 : (Jvm.Cond.instanceMethod ({ cls := "WordTongue$Misread", name := "<init>", desc := "(II)V" } : Jvm.MethodName)) ∈ lw_all := lw_g (lw_at lw_m7 83 rfl) rfl
theorem q1778 : (Jvm.Cond.code ({ cls := "WordTongue$Misread", name := "<init>", desc := "(II)V" } : Jvm.MethodName) prog_10_method_1_code (3 : Nat) (Option.none : Option Jvm.ClassFile.FieldType)) ∈ lw_all := lw_g (lw_at lw_m7 84 rfl) rfl
theorem q1779 : (Jvm.Cond.methodLink "WordTongue$Misread" (1 : Nat) ({ cls := "java/lang/RuntimeException", name := "<init>", desc := "()V" } : Jvm.MethodName)) ∈ lw_all := lw_g (lw_at lw_m7 85 rfl) rfl
theorem q1786 : (Jvm.Cond.fieldLink "WordTongue$Misread" (7 : Nat) "WordTongue$Misread" "place" "I") ∈ lw_all := lw_g (lw_at lw_m7 92 rfl) rfl
theorem q1789 : (Jvm.Cond.fieldLink "WordTongue$Misread" (13 : Nat) "WordTongue$Misread" "fault" "I") ∈ lw_all := lw_g (lw_at lw_m7 95 rfl) rfl
theorem q1795 : (Jvm.Cond.laysFinal "WordTongue$Misread" "WordTongue$Misread" "place" "I") ∈ lw_all := lw_g (lw_at lw_m7 101 rfl) rfl
theorem q1796 : (Jvm.Cond.soleField "WordTongue$Misread" "place") ∈ lw_all := lw_g (lw_at lw_m7 102 rfl) rfl
theorem q1797 : (Jvm.Cond.laysFinal "WordTongue$Misread" "WordTongue$Misread" "fault" "I") ∈ lw_all := lw_g (lw_at lw_m7 103 rfl) rfl
theorem q1798 : (Jvm.Cond.soleField "WordTongue$Misread" "fault") ∈ lw_all := lw_g (lw_at lw_m7 104 rfl) rfl
theorem q1803 : (Jvm.Cond.lays "WordTongue$Misread" "java/lang/Throwable" "depth" "I") ∈ lw_all := lw_g (lw_at lw_m7 109 rfl) rfl
theorem q1806 : (Jvm.Cond.superclass "WordTongue$Misread" "java/lang/RuntimeException") ∈ lw_all := lw_g (lw_at lw_m7 112 rfl) rfl
theorem q4347 : (Jvm.Cond.castable "WordTongue$Misread" "java/lang/Object") ∈ lw_tbl := lw_at lw_m18 13 rfl
theorem in_X12 : ∀ w ∈ wsX120, w ∈ lw_all := lw_in wsX120 [1746, 1748, 1750, 1752, 1754, 1803, 1795, 1797] (by decide +kernel) (by decide +kernel)
/-! WordTongue$Parser -/
set_option maxRecDepth 100000
def RX13 : String := "WordTongue$Parser"
def TX13 : u_T := fun k => match k with
  | 0 => ("WordTongue$Parser", "tokens", "Ljava/util/List;", true)
  | 1 => ("WordTongue$Parser", "at", "I", false)
  | 2 => ("WordTongue$Parser", "deep", "I", false)
  | 3 => ("WordTongue$Parser", "items", "Ljava/util/List;", true)
  | 4 => ("WordTongue$Parser", "globals", "Ljava/util/Set;", true)
  | _ => ("WordTongue$Parser", "tags", "Ljava/util/List;", true)
def tyX13 : Nat → FieldType := fun k => match k with
  | 0 => .object "java/util/List"
  | 1 => .int
  | 2 => .int
  | 3 => .object "java/util/List"
  | 4 => .object "java/util/Set"
  | _ => .object "java/util/List"
abbrev wsX130 : List Cond := u_ws RX13 TX13 6
theorem nmX13 : ∀ a, a < 6 → ∀ b, b < 6 → a ≠ b → (TX13 a).2.1 ≠ (TX13 b).2.1 := by decide +kernel
theorem tyX13_ok : ∀ k, k < 6 → parseFieldDescriptor (TX13 k).2.2.1 = some (tyX13 k) := by decide +kernel
abbrev cX13_init : ByteArray := prog_12_method_1_code
def yX13_init : MethodName := ⟨RX13, "<init>", "(Ljava/util/List;)V"⟩
abbrev cX13_text : ByteArray := prog_12_method_12_code
def yX13_text : MethodName := ⟨RX13, "text", "()Ljava/util/List;"⟩
abbrev cX13_declaration : ByteArray := prog_12_method_14_code
def yX13_declaration : MethodName := ⟨RX13, "declaration", "(Z)LWordTongue$Node;"⟩
abbrev cX13_is : ByteArray := prog_12_method_4_code
def yX13_is : MethodName := ⟨RX13, "is", "(Ljava/lang/String;)Z"⟩
abbrev cX13_peek : ByteArray := prog_12_method_2_code
def yX13_peek : MethodName := ⟨RX13, "peek", "()LWordTongue$Token;"⟩
abbrev cX13_constants : ByteArray := prog_12_method_16_code
def yX13_constants : MethodName := ⟨RX13, "constants", "(LWordTongue$Kind;Ljava/lang/String;)LWordTongue$Node;"⟩
abbrev cX13_take : ByteArray := prog_12_method_3_code
def yX13_take : MethodName := ⟨RX13, "take", "()LWordTongue$Token;"⟩
abbrev cX13_enter : ByteArray := prog_12_method_11_code
def yX13_enter : MethodName := ⟨RX13, "enter", "()V"⟩
abbrev cX13_wrong : ByteArray := prog_12_method_6_code
def yX13_wrong : MethodName := ⟨RX13, "wrong", "()LWordTongue$Misread;"⟩
abbrev cX13_opens : ByteArray := prog_12_method_9_code
def yX13_opens : MethodName := ⟨RX13, "opens", "()LWordTongue$Token;"⟩
abbrev cX13_must : ByteArray := prog_12_method_7_code
def yX13_must : MethodName := ⟨RX13, "must", "(Ljava/lang/String;)LWordTongue$Token;"⟩
abbrev cX13_name : ByteArray := prog_12_method_8_code
def yX13_name : MethodName := ⟨RX13, "name", "()LWordTongue$Token;"⟩
abbrev cX13_expression : ByteArray := prog_12_method_29_code
def yX13_expression : MethodName := ⟨RX13, "expression", "()LWordTongue$Node;"⟩
abbrev cX13_level : ByteArray := prog_12_method_31_code
def yX13_level : MethodName := ⟨RX13, "level", "(I)LWordTongue$Node;"⟩
abbrev cX13_prefixed : ByteArray := prog_12_method_33_code
def yX13_prefixed : MethodName := ⟨RX13, "prefixed", "()LWordTongue$Node;"⟩
abbrev cX13_addressed : ByteArray := prog_12_method_35_code
def yX13_addressed : MethodName := ⟨RX13, "addressed", "()LWordTongue$Node;"⟩
abbrev cX13_marked : ByteArray := prog_12_method_34_code
def yX13_marked : MethodName := ⟨RX13, "marked", "(Z)LWordTongue$Node;"⟩
abbrev cX13_called : ByteArray := prog_12_method_36_code
def yX13_called : MethodName := ⟨RX13, "called", "()LWordTongue$Node;"⟩
abbrev cX13_primary : ByteArray := prog_12_method_37_code
def yX13_primary : MethodName := ⟨RX13, "primary", "()LWordTongue$Node;"⟩
abbrev cX13_command : ByteArray := prog_12_method_18_code
def yX13_command : MethodName := ⟨RX13, "command", "()LWordTongue$Node;"⟩
abbrev cX13_simple : ByteArray := prog_12_method_23_code
def yX13_simple : MethodName := ⟨RX13, "simple", "()LWordTongue$Node;"⟩
abbrev cX13_assignment : ByteArray := prog_12_method_28_code
def yX13_assignment : MethodName := ⟨RX13, "assignment", "()LWordTongue$Node;"⟩
abbrev cX13_skip : ByteArray := prog_12_method_5_code
def yX13_skip : MethodName := ⟨RX13, "skip", "(Ljava/lang/String;)Z"⟩
abbrev cX13_block : ByteArray := prog_12_method_26_code
def yX13_block : MethodName := ⟨RX13, "block", "()LWordTongue$Node;"⟩
abbrev cX13_isDeclaration : ByteArray := prog_12_method_13_code
def yX13_isDeclaration : MethodName := ⟨RX13, "isDeclaration", "()Z"⟩
abbrev cX13_item : ByteArray := prog_12_method_27_code
def yX13_item : MethodName := ⟨RX13, "item", "(LWordTongue$Node;)V"⟩
abbrev cX13_closes : ByteArray := prog_12_method_10_code
def yX13_closes : MethodName := ⟨RX13, "closes", "()V"⟩
abbrev cX13_headed : ByteArray := prog_12_method_22_code
def yX13_headed : MethodName := ⟨RX13, "headed", "(LWordTongue$Kind;)LWordTongue$Node;"⟩
abbrev cX13_then : ByteArray := prog_12_method_19_code
def yX13_then : MethodName := ⟨RX13, "then", "()V"⟩
abbrev cX13_commands : ByteArray := prog_12_method_20_code
def yX13_commands : MethodName := ⟨RX13, "commands", "(Ljava/lang/String;)Z"⟩
abbrev cX13_inner : ByteArray := prog_12_method_21_code
def yX13_inner : MethodName := ⟨RX13, "inner", "()LWordTongue$Node;"⟩
abbrev cX13_loop : ByteArray := prog_12_method_24_code
def yX13_loop : MethodName := ⟨RX13, "loop", "()LWordTongue$Node;"⟩
abbrev cX13_choice : ByteArray := prog_12_method_25_code
def yX13_choice : MethodName := ⟨RX13, "choice", "()LWordTongue$Node;"⟩
abbrev cX13_isOf : ByteArray := prog_12_method_30_code
def yX13_isOf : MethodName := ⟨RX13, "isOf", "(I)Z"⟩
abbrev cX13_compared : ByteArray := prog_12_method_32_code
def yX13_compared : MethodName := ⟨RX13, "compared", "(LWordTongue$Node;)LWordTongue$Node;"⟩
abbrev cX13_routine : ByteArray := prog_12_method_17_code
def yX13_routine : MethodName := ⟨RX13, "routine", "(LWordTongue$Token;Z)LWordTongue$Node;"⟩
abbrev cX13_initial : ByteArray := prog_12_method_15_code
def yX13_initial : MethodName := ⟨RX13, "initial", "()LWordTongue$Node;"⟩
theorem q297 : (Jvm.Cond.initialized "WordTongue$Parser") ∈ lw_all := lw_g (lw_at lw_m1 43 rfl) rfl
theorem q691 : (Jvm.Cond.selects "WordTongue$Parser" ({ cls := "java/lang/Object", name := "hashCode", desc := "()I" } : Jvm.MethodName) ({ cls := "java/lang/Object", name := "hashCode", desc := "()I" } : Jvm.MethodName)) ∈ lw_all := lw_g (lw_at lw_m2 197 rfl) rfl
theorem q836 : (Jvm.Cond.selects "WordTongue$Parser" ({ cls := "java/lang/Object", name := "getClass", desc := "()Ljava/lang/Class;" } : Jvm.MethodName) ({ cls := "java/lang/Object", name := "getClass", desc := "()Ljava/lang/Class;" } : Jvm.MethodName)) ∈ lw_all := lw_g (lw_at lw_m3 102 rfl) rfl
theorem q1122 : (Jvm.Cond.selects "WordTongue$Parser" ({ cls := "java/lang/Object", name := "equals", desc := "(Ljava/lang/Object;)Z" } : Jvm.MethodName) ({ cls := "java/lang/Object", name := "equals", desc := "(Ljava/lang/Object;)Z" } : Jvm.MethodName)) ∈ lw_all := lw_g (lw_at lw_m4 148 rfl) rfl
theorem q1618 : (Jvm.Cond.fieldLink "WordTongue$Parser" (47 : Nat) "WordTongue$Token" "kind" "I") ∈ lw_all := lw_g (lw_at lw_m6 164 rfl) rfl
theorem q1621 : (Jvm.Cond.fieldLink "WordTongue$Parser" (66 : Nat) "WordTongue$Token" "place" "I") ∈ lw_all := lw_g (lw_at lw_m6 167 rfl) rfl
theorem q1627 : (Jvm.Cond.fieldLink "WordTongue$Parser" (470 : Nat) "WordTongue$Token" "value" "I") ∈ lw_all := lw_g (lw_at lw_m6 173 rfl) rfl
theorem q1629 : (Jvm.Cond.fieldLink "WordTongue$Parser" (50 : Nat) "WordTongue$Token" "text" "Ljava/lang/String;") ∈ lw_all := lw_g (lw_at lw_m6 175 rfl) rfl
theorem q1633 : (Jvm.Cond.fieldLink "WordTongue$Parser" (396 : Nat) "WordTongue$Token" "level" "I") ∈ lw_all := lw_g (lw_at lw_m6 179 rfl) rfl
theorem q1635 : (Jvm.Cond.fieldLink "WordTongue$Parser" (85 : Nat) "WordTongue$Token" "tag" "Ljava/lang/String;") ∈ lw_all := lw_g (lw_at lw_m6 181 rfl) rfl
theorem q2026 : (Jvm.Cond.instantiable "WordTongue$Parser" (6 : Nat)) ∈ lw_all := lw_g (lw_at lw_m8 92 rfl) rfl
theorem q2028 : (Jvm.Cond.instanceMethod ({ cls := "WordTongue$Parser", name := "<init>", desc := "(Ljava/util/List;)V" } : Jvm.MethodName)) ∈ lw_all := lw_g (lw_at lw_m8 94 rfl) rfl
theorem q2029 : (Jvm.Cond.code ({ cls := "WordTongue$Parser", name := "<init>", desc := "(Ljava/util/List;)V" } : Jvm.MethodName) prog_12_method_1_code (2 : Nat) (Option.none : Option Jvm.ClassFile.FieldType)) ∈ lw_all := lw_g (lw_at lw_m8 95 rfl) rfl
theorem q2030 : (Jvm.Cond.methodLink "WordTongue$Parser" (3 : Nat) ({ cls := "java/lang/Object", name := "<init>", desc := "()V" } : Jvm.MethodName)) ∈ lw_all := lw_g (lw_at lw_m8 96 rfl) rfl
theorem q2031 : (Jvm.Cond.classLink "WordTongue$Parser" (9 : Nat) "java/util/ArrayList") ∈ lw_all := lw_g (lw_at lw_m8 97 rfl) rfl
theorem q2032 : (Jvm.Cond.methodLink "WordTongue$Parser" (11 : Nat) ({ cls := "java/util/ArrayList", name := "<init>", desc := "()V" } : Jvm.MethodName)) ∈ lw_all := lw_g (lw_at lw_m8 98 rfl) rfl
theorem q2033 : (Jvm.Cond.classLink "WordTongue$Parser" (18 : Nat) "java/util/HashSet") ∈ lw_all := lw_g (lw_at lw_m8 99 rfl) rfl
theorem q2035 : (Jvm.Cond.methodLink "WordTongue$Parser" (20 : Nat) ({ cls := "java/util/HashSet", name := "<init>", desc := "()V" } : Jvm.MethodName)) ∈ lw_all := lw_g (lw_at lw_m8 101 rfl) rfl
theorem q2048 : (Jvm.Cond.fieldLink "WordTongue$Parser" (28 : Nat) "WordTongue$Parser" "tokens" "Ljava/util/List;") ∈ lw_all := lw_g (lw_at lw_m8 114 rfl) rfl
theorem q2049 : (Jvm.Cond.fieldLink "WordTongue$Parser" (31 : Nat) "WordTongue$Parser" "at" "I") ∈ lw_all := lw_g (lw_at lw_m8 115 rfl) rfl
theorem q2050 : (Jvm.Cond.fieldLink "WordTongue$Parser" (107 : Nat) "WordTongue$Parser" "deep" "I") ∈ lw_all := lw_g (lw_at lw_m8 116 rfl) rfl
theorem q2051 : (Jvm.Cond.fieldLink "WordTongue$Parser" (12 : Nat) "WordTongue$Parser" "items" "Ljava/util/List;") ∈ lw_all := lw_g (lw_at lw_m8 117 rfl) rfl
theorem q2053 : (Jvm.Cond.fieldLink "WordTongue$Parser" (21 : Nat) "WordTongue$Parser" "globals" "Ljava/util/Set;") ∈ lw_all := lw_g (lw_at lw_m8 119 rfl) rfl
theorem q2054 : (Jvm.Cond.fieldLink "WordTongue$Parser" (25 : Nat) "WordTongue$Parser" "tags" "Ljava/util/List;") ∈ lw_all := lw_g (lw_at lw_m8 120 rfl) rfl
theorem q2055 : (Jvm.Cond.laysFinal "WordTongue$Parser" "WordTongue$Parser" "tokens" "Ljava/util/List;") ∈ lw_all := lw_g (lw_at lw_m8 121 rfl) rfl
theorem q2056 : (Jvm.Cond.soleField "WordTongue$Parser" "tokens") ∈ lw_all := lw_g (lw_at lw_m8 122 rfl) rfl
theorem q2057 : (Jvm.Cond.lays "WordTongue$Parser" "WordTongue$Parser" "at" "I") ∈ lw_all := lw_g (lw_at lw_m8 123 rfl) rfl
theorem q2058 : (Jvm.Cond.soleField "WordTongue$Parser" "at") ∈ lw_all := lw_g (lw_at lw_m8 124 rfl) rfl
theorem q2059 : (Jvm.Cond.lays "WordTongue$Parser" "WordTongue$Parser" "deep" "I") ∈ lw_all := lw_g (lw_at lw_m8 125 rfl) rfl
theorem q2060 : (Jvm.Cond.soleField "WordTongue$Parser" "deep") ∈ lw_all := lw_g (lw_at lw_m8 126 rfl) rfl
theorem q2061 : (Jvm.Cond.laysFinal "WordTongue$Parser" "WordTongue$Parser" "items" "Ljava/util/List;") ∈ lw_all := lw_g (lw_at lw_m8 127 rfl) rfl
theorem q2062 : (Jvm.Cond.soleField "WordTongue$Parser" "items") ∈ lw_all := lw_g (lw_at lw_m8 128 rfl) rfl
theorem q2063 : (Jvm.Cond.laysFinal "WordTongue$Parser" "WordTongue$Parser" "globals" "Ljava/util/Set;") ∈ lw_all := lw_g (lw_at lw_m8 129 rfl) rfl
theorem q2064 : (Jvm.Cond.soleField "WordTongue$Parser" "globals") ∈ lw_all := lw_g (lw_at lw_m8 130 rfl) rfl
theorem q2065 : (Jvm.Cond.laysFinal "WordTongue$Parser" "WordTongue$Parser" "tags" "Ljava/util/List;") ∈ lw_all := lw_g (lw_at lw_m8 131 rfl) rfl
theorem q2066 : (Jvm.Cond.soleField "WordTongue$Parser" "tags") ∈ lw_all := lw_g (lw_at lw_m8 132 rfl) rfl
theorem q2067 : (Jvm.Cond.superclass "WordTongue$Parser" "java/lang/Object") ∈ lw_all := lw_g (lw_at lw_m8 133 rfl) rfl
theorem q2069 : (Jvm.Cond.instanceMethod ({ cls := "WordTongue$Parser", name := "text", desc := "()Ljava/util/List;" } : Jvm.MethodName)) ∈ lw_all := lw_g (lw_at lw_m8 135 rfl) rfl
theorem q2070 : (Jvm.Cond.selects "WordTongue$Parser" ({ cls := "WordTongue$Parser", name := "text", desc := "()Ljava/util/List;" } : Jvm.MethodName) ({ cls := "WordTongue$Parser", name := "text", desc := "()Ljava/util/List;" } : Jvm.MethodName)) ∈ lw_all := lw_g (lw_at lw_m8 136 rfl) rfl
theorem q2071 : (Jvm.Cond.code ({ cls := "WordTongue$Parser", name := "text", desc := "()Ljava/util/List;" } : Jvm.MethodName) prog_12_method_12_code (2 : Nat) (Option.some (Jvm.ClassFile.FieldType.object "java/util/List"))) ∈ lw_all := lw_g (lw_at lw_m8 137 rfl) rfl
theorem q2072 : (Jvm.Cond.methodLink "WordTongue$Parser" (110 : Nat) ({ cls := "WordTongue$Parser", name := "declaration", desc := "(Z)LWordTongue$Node;" } : Jvm.MethodName)) ∈ lw_all := lw_g (lw_at lw_m8 138 rfl) rfl
theorem q2073 : (Jvm.Cond.privateMethod ({ cls := "WordTongue$Parser", name := "declaration", desc := "(Z)LWordTongue$Node;" } : Jvm.MethodName)) ∈ lw_tbl := lw_at lw_m8 139 rfl
theorem q2074 : (Jvm.Cond.instanceMethod ({ cls := "WordTongue$Parser", name := "declaration", desc := "(Z)LWordTongue$Node;" } : Jvm.MethodName)) ∈ lw_all := lw_g (lw_at lw_m8 140 rfl) rfl
theorem q2075 : (Jvm.Cond.code ({ cls := "WordTongue$Parser", name := "declaration", desc := "(Z)LWordTongue$Node;" } : Jvm.MethodName) prog_12_method_14_code (6 : Nat) (Option.some (Jvm.ClassFile.FieldType.object "WordTongue$Node"))) ∈ lw_all := lw_g (lw_at lw_m8 141 rfl) rfl
theorem q2076 : (Jvm.Cond.stringRef "WordTongue$Parser" (119 : Nat) "GLOBAL") ∈ lw_tbl := lw_at lw_m8 142 rfl
theorem q2077 : (Jvm.Cond.methodLink "WordTongue$Parser" (60 : Nat) ({ cls := "WordTongue$Parser", name := "is", desc := "(Ljava/lang/String;)Z" } : Jvm.MethodName)) ∈ lw_all := lw_g (lw_at lw_m8 143 rfl) rfl
theorem q2078 : (Jvm.Cond.privateMethod ({ cls := "WordTongue$Parser", name := "is", desc := "(Ljava/lang/String;)Z" } : Jvm.MethodName)) ∈ lw_tbl := lw_at lw_m8 144 rfl
theorem q2079 : (Jvm.Cond.instanceMethod ({ cls := "WordTongue$Parser", name := "is", desc := "(Ljava/lang/String;)Z" } : Jvm.MethodName)) ∈ lw_all := lw_g (lw_at lw_m8 145 rfl) rfl
theorem q2080 : (Jvm.Cond.code ({ cls := "WordTongue$Parser", name := "is", desc := "(Ljava/lang/String;)Z" } : Jvm.MethodName) prog_12_method_4_code (2 : Nat) (Option.some Jvm.ClassFile.FieldType.boolean)) ∈ lw_all := lw_g (lw_at lw_m8 146 rfl) rfl
theorem q2081 : (Jvm.Cond.methodLink "WordTongue$Parser" (43 : Nat) ({ cls := "WordTongue$Parser", name := "peek", desc := "()LWordTongue$Token;" } : Jvm.MethodName)) ∈ lw_all := lw_g (lw_at lw_m8 147 rfl) rfl
theorem q2082 : (Jvm.Cond.privateMethod ({ cls := "WordTongue$Parser", name := "peek", desc := "()LWordTongue$Token;" } : Jvm.MethodName)) ∈ lw_tbl := lw_at lw_m8 148 rfl
theorem q2083 : (Jvm.Cond.instanceMethod ({ cls := "WordTongue$Parser", name := "peek", desc := "()LWordTongue$Token;" } : Jvm.MethodName)) ∈ lw_all := lw_g (lw_at lw_m8 149 rfl) rfl
theorem q2084 : (Jvm.Cond.code ({ cls := "WordTongue$Parser", name := "peek", desc := "()LWordTongue$Token;" } : Jvm.MethodName) prog_12_method_2_code (1 : Nat) (Option.some (Jvm.ClassFile.FieldType.object "WordTongue$Token"))) ∈ lw_all := lw_g (lw_at lw_m8 150 rfl) rfl
theorem q2085 : (Jvm.Cond.interfaceEntry "WordTongue$Parser" (35 : Nat)) ∈ lw_tbl := lw_at lw_m8 151 rfl
theorem q2086 : (Jvm.Cond.methodLink "WordTongue$Parser" (35 : Nat) ({ cls := "java/util/List", name := "get", desc := "(I)Ljava/lang/Object;" } : Jvm.MethodName)) ∈ lw_all := lw_g (lw_at lw_m8 152 rfl) rfl
theorem q2087 : (Jvm.Cond.classLink "WordTongue$Parser" (41 : Nat) "WordTongue$Token") ∈ lw_all := lw_g (lw_at lw_m8 153 rfl) rfl
theorem q2088 : (Jvm.Cond.methodLink "WordTongue$Parser" (54 : Nat) ({ cls := "java/lang/String", name := "equals", desc := "(Ljava/lang/Object;)Z" } : Jvm.MethodName)) ∈ lw_all := lw_g (lw_at lw_m8 154 rfl) rfl
theorem q2089 : (Jvm.Cond.fieldLink "WordTongue$Parser" (127 : Nat) "WordTongue$Kind" "GLOBAL" "LWordTongue$Kind;") ∈ lw_all := lw_g (lw_at lw_m8 155 rfl) rfl
theorem q2091 : (Jvm.Cond.stringRef "WordTongue$Parser" (132 : Nat) ":") ∈ lw_tbl := lw_at lw_m8 157 rfl
theorem q2092 : (Jvm.Cond.methodLink "WordTongue$Parser" (134 : Nat) ({ cls := "WordTongue$Parser", name := "constants", desc := "(LWordTongue$Kind;Ljava/lang/String;)LWordTongue$Node;" } : Jvm.MethodName)) ∈ lw_all := lw_g (lw_at lw_m8 158 rfl) rfl
theorem q2093 : (Jvm.Cond.privateMethod ({ cls := "WordTongue$Parser", name := "constants", desc := "(LWordTongue$Kind;Ljava/lang/String;)LWordTongue$Node;" } : Jvm.MethodName)) ∈ lw_tbl := lw_at lw_m8 159 rfl
theorem q2094 : (Jvm.Cond.instanceMethod ({ cls := "WordTongue$Parser", name := "constants", desc := "(LWordTongue$Kind;Ljava/lang/String;)LWordTongue$Node;" } : Jvm.MethodName)) ∈ lw_all := lw_g (lw_at lw_m8 160 rfl) rfl
theorem q2095 : (Jvm.Cond.code ({ cls := "WordTongue$Parser", name := "constants", desc := "(LWordTongue$Kind;Ljava/lang/String;)LWordTongue$Node;" } : Jvm.MethodName) prog_12_method_16_code (6 : Nat) (Option.some (Jvm.ClassFile.FieldType.object "WordTongue$Node"))) ∈ lw_all := lw_g (lw_at lw_m8 161 rfl) rfl
theorem q2096 : (Jvm.Cond.classLink "WordTongue$Parser" (139 : Nat) "WordTongue$Node") ∈ lw_all := lw_g (lw_at lw_m8 162 rfl) rfl
theorem q2098 : (Jvm.Cond.methodLink "WordTongue$Parser" (76 : Nat) ({ cls := "WordTongue$Parser", name := "take", desc := "()LWordTongue$Token;" } : Jvm.MethodName)) ∈ lw_all := lw_g (lw_at lw_m8 164 rfl) rfl
theorem q2099 : (Jvm.Cond.privateMethod ({ cls := "WordTongue$Parser", name := "take", desc := "()LWordTongue$Token;" } : Jvm.MethodName)) ∈ lw_tbl := lw_at lw_m8 165 rfl
theorem q2100 : (Jvm.Cond.instanceMethod ({ cls := "WordTongue$Parser", name := "take", desc := "()LWordTongue$Token;" } : Jvm.MethodName)) ∈ lw_all := lw_g (lw_at lw_m8 166 rfl) rfl
theorem q2101 : (Jvm.Cond.code ({ cls := "WordTongue$Parser", name := "take", desc := "()LWordTongue$Token;" } : Jvm.MethodName) prog_12_method_3_code (1 : Nat) (Option.some (Jvm.ClassFile.FieldType.object "WordTongue$Token"))) ∈ lw_all := lw_g (lw_at lw_m8 167 rfl) rfl
theorem q2102 : (Jvm.Cond.methodLink "WordTongue$Parser" (165 : Nat) ({ cls := "WordTongue$Node", name := "<init>", desc := "(LWordTongue$Kind;I)V" } : Jvm.MethodName)) ∈ lw_all := lw_g (lw_at lw_m8 168 rfl) rfl
theorem q2109 : (Jvm.Cond.fieldLink "WordTongue$Parser" (369 : Nat) "WordTongue$Node" "kind" "LWordTongue$Kind;") ∈ lw_all := lw_g (lw_at lw_m8 175 rfl) rfl
theorem q2116 : (Jvm.Cond.fieldLink "WordTongue$Parser" (393 : Nat) "WordTongue$Node" "from" "I") ∈ lw_all := lw_g (lw_at lw_m8 182 rfl) rfl
theorem q2117 : (Jvm.Cond.fieldLink "WordTongue$Parser" (414 : Nat) "WordTongue$Listed" "from" "I") ∈ lw_all := lw_g (lw_at lw_m8 183 rfl) rfl
theorem q2119 : (Jvm.Cond.fieldLink "WordTongue$Parser" (374 : Nat) "WordTongue$Node" "apart" "Z") ∈ lw_all := lw_g (lw_at lw_m8 185 rfl) rfl
theorem q2122 : (Jvm.Cond.fieldLink "WordTongue$Parser" (144 : Nat) "WordTongue$Node" "text" "Ljava/lang/String;") ∈ lw_all := lw_g (lw_at lw_m8 188 rfl) rfl
theorem q2123 : (Jvm.Cond.fieldLink "WordTongue$Parser" (212 : Nat) "WordTongue$Listed" "text" "Ljava/lang/String;") ∈ lw_all := lw_g (lw_at lw_m8 189 rfl) rfl
theorem q2129 : (Jvm.Cond.fieldLink "WordTongue$Parser" (473 : Nat) "WordTongue$Node" "value" "I") ∈ lw_all := lw_g (lw_at lw_m8 195 rfl) rfl
theorem q2132 : (Jvm.Cond.fieldLink "WordTongue$Parser" (138 : Nat) "WordTongue$Node" "first" "LWordTongue$Node;") ∈ lw_all := lw_g (lw_at lw_m8 198 rfl) rfl
theorem q2138 : (Jvm.Cond.fieldLink "WordTongue$Parser" (148 : Nat) "WordTongue$Node" "next" "LWordTongue$Node;") ∈ lw_all := lw_g (lw_at lw_m8 204 rfl) rfl
theorem q2158 : (Jvm.Cond.stringRef "WordTongue$Parser" (79 : Nat) "$(") ∈ lw_tbl := lw_at lw_m8 224 rfl
theorem q2159 : (Jvm.Cond.methodLink "WordTongue$Parser" (200 : Nat) ({ cls := "WordTongue$Parser", name := "enter", desc := "()V" } : Jvm.MethodName)) ∈ lw_all := lw_g (lw_at lw_m8 225 rfl) rfl
theorem q2160 : (Jvm.Cond.privateMethod ({ cls := "WordTongue$Parser", name := "enter", desc := "()V" } : Jvm.MethodName)) ∈ lw_tbl := lw_at lw_m8 226 rfl
theorem q2161 : (Jvm.Cond.instanceMethod ({ cls := "WordTongue$Parser", name := "enter", desc := "()V" } : Jvm.MethodName)) ∈ lw_all := lw_g (lw_at lw_m8 227 rfl) rfl
theorem q2162 : (Jvm.Cond.code ({ cls := "WordTongue$Parser", name := "enter", desc := "()V" } : Jvm.MethodName) prog_12_method_11_code (1 : Nat) (Option.none : Option Jvm.ClassFile.FieldType)) ∈ lw_all := lw_g (lw_at lw_m8 228 rfl) rfl
theorem q2163 : (Jvm.Cond.methodLink "WordTongue$Parser" (72 : Nat) ({ cls := "WordTongue$Parser", name := "wrong", desc := "()LWordTongue$Misread;" } : Jvm.MethodName)) ∈ lw_all := lw_g (lw_at lw_m8 229 rfl) rfl
theorem q2164 : (Jvm.Cond.privateMethod ({ cls := "WordTongue$Parser", name := "wrong", desc := "()LWordTongue$Misread;" } : Jvm.MethodName)) ∈ lw_tbl := lw_at lw_m8 230 rfl
theorem q2165 : (Jvm.Cond.instanceMethod ({ cls := "WordTongue$Parser", name := "wrong", desc := "()LWordTongue$Misread;" } : Jvm.MethodName)) ∈ lw_all := lw_g (lw_at lw_m8 231 rfl) rfl
theorem q2166 : (Jvm.Cond.code ({ cls := "WordTongue$Parser", name := "wrong", desc := "()LWordTongue$Misread;" } : Jvm.MethodName) prog_12_method_6_code (1 : Nat) (Option.some (Jvm.ClassFile.FieldType.object "WordTongue$Misread"))) ∈ lw_all := lw_g (lw_at lw_m8 232 rfl) rfl
theorem q2167 : (Jvm.Cond.classLink "WordTongue$Parser" (64 : Nat) "WordTongue$Misread") ∈ lw_all := lw_g (lw_at lw_m8 233 rfl) rfl
theorem q2168 : (Jvm.Cond.methodLink "WordTongue$Parser" (69 : Nat) ({ cls := "WordTongue$Misread", name := "<init>", desc := "(II)V" } : Jvm.MethodName)) ∈ lw_all := lw_g (lw_at lw_m8 234 rfl) rfl
theorem q2169 : (Jvm.Cond.methodLink "WordTongue$Parser" (203 : Nat) ({ cls := "WordTongue$Parser", name := "opens", desc := "()LWordTongue$Token;" } : Jvm.MethodName)) ∈ lw_all := lw_g (lw_at lw_m8 235 rfl) rfl
theorem q2170 : (Jvm.Cond.privateMethod ({ cls := "WordTongue$Parser", name := "opens", desc := "()LWordTongue$Token;" } : Jvm.MethodName)) ∈ lw_tbl := lw_at lw_m8 236 rfl
theorem q2171 : (Jvm.Cond.instanceMethod ({ cls := "WordTongue$Parser", name := "opens", desc := "()LWordTongue$Token;" } : Jvm.MethodName)) ∈ lw_all := lw_g (lw_at lw_m8 237 rfl) rfl
theorem q2172 : (Jvm.Cond.code ({ cls := "WordTongue$Parser", name := "opens", desc := "()LWordTongue$Token;" } : Jvm.MethodName) prog_12_method_9_code (2 : Nat) (Option.some (Jvm.ClassFile.FieldType.object "WordTongue$Token"))) ∈ lw_all := lw_g (lw_at lw_m8 238 rfl) rfl
theorem q2173 : (Jvm.Cond.methodLink "WordTongue$Parser" (81 : Nat) ({ cls := "WordTongue$Parser", name := "must", desc := "(Ljava/lang/String;)LWordTongue$Token;" } : Jvm.MethodName)) ∈ lw_all := lw_g (lw_at lw_m8 239 rfl) rfl
theorem q2174 : (Jvm.Cond.privateMethod ({ cls := "WordTongue$Parser", name := "must", desc := "(Ljava/lang/String;)LWordTongue$Token;" } : Jvm.MethodName)) ∈ lw_tbl := lw_at lw_m9 0 rfl
theorem q2175 : (Jvm.Cond.instanceMethod ({ cls := "WordTongue$Parser", name := "must", desc := "(Ljava/lang/String;)LWordTongue$Token;" } : Jvm.MethodName)) ∈ lw_all := lw_g (lw_at lw_m9 1 rfl) rfl
theorem q2176 : (Jvm.Cond.code ({ cls := "WordTongue$Parser", name := "must", desc := "(Ljava/lang/String;)LWordTongue$Token;" } : Jvm.MethodName) prog_12_method_7_code (2 : Nat) (Option.some (Jvm.ClassFile.FieldType.object "WordTongue$Token"))) ∈ lw_all := lw_g (lw_at lw_m9 2 rfl) rfl
theorem q2177 : (Jvm.Cond.interfaceEntry "WordTongue$Parser" (88 : Nat)) ∈ lw_tbl := lw_at lw_m9 3 rfl
theorem q2178 : (Jvm.Cond.methodLink "WordTongue$Parser" (88 : Nat) ({ cls := "java/util/List", name := "add", desc := "(Ljava/lang/Object;)Z" } : Jvm.MethodName)) ∈ lw_all := lw_g (lw_at lw_m9 4 rfl) rfl
theorem q2179 : (Jvm.Cond.methodLink "WordTongue$Parser" (157 : Nat) ({ cls := "WordTongue$Parser", name := "name", desc := "()LWordTongue$Token;" } : Jvm.MethodName)) ∈ lw_all := lw_g (lw_at lw_m9 5 rfl) rfl
theorem q2180 : (Jvm.Cond.privateMethod ({ cls := "WordTongue$Parser", name := "name", desc := "()LWordTongue$Token;" } : Jvm.MethodName)) ∈ lw_tbl := lw_at lw_m9 6 rfl
theorem q2181 : (Jvm.Cond.instanceMethod ({ cls := "WordTongue$Parser", name := "name", desc := "()LWordTongue$Token;" } : Jvm.MethodName)) ∈ lw_all := lw_g (lw_at lw_m9 7 rfl) rfl
theorem q2182 : (Jvm.Cond.code ({ cls := "WordTongue$Parser", name := "name", desc := "()LWordTongue$Token;" } : Jvm.MethodName) prog_12_method_8_code (1 : Nat) (Option.some (Jvm.ClassFile.FieldType.object "WordTongue$Token"))) ∈ lw_all := lw_g (lw_at lw_m9 8 rfl) rfl
theorem q2183 : (Jvm.Cond.fieldLink "WordTongue$Parser" (155 : Nat) "WordTongue$Kind" "STATIC" "LWordTongue$Kind;") ∈ lw_all := lw_g (lw_at lw_m9 9 rfl) rfl
theorem q2185 : (Jvm.Cond.methodLink "WordTongue$Parser" (195 : Nat) ({ cls := "WordTongue$Parser", name := "expression", desc := "()LWordTongue$Node;" } : Jvm.MethodName)) ∈ lw_all := lw_g (lw_at lw_m9 11 rfl) rfl
theorem q2186 : (Jvm.Cond.instanceMethod ({ cls := "WordTongue$Parser", name := "expression", desc := "()LWordTongue$Node;" } : Jvm.MethodName)) ∈ lw_all := lw_g (lw_at lw_m9 12 rfl) rfl
theorem q2187 : (Jvm.Cond.selects "WordTongue$Parser" ({ cls := "WordTongue$Parser", name := "expression", desc := "()LWordTongue$Node;" } : Jvm.MethodName) ({ cls := "WordTongue$Parser", name := "expression", desc := "()LWordTongue$Node;" } : Jvm.MethodName)) ∈ lw_all := lw_g (lw_at lw_m9 13 rfl) rfl
theorem q2188 : (Jvm.Cond.code ({ cls := "WordTongue$Parser", name := "expression", desc := "()LWordTongue$Node;" } : Jvm.MethodName) prog_12_method_29_code (3 : Nat) (Option.some (Jvm.ClassFile.FieldType.object "WordTongue$Node"))) ∈ lw_all := lw_g (lw_at lw_m9 14 rfl) rfl
theorem q2189 : (Jvm.Cond.methodLink "WordTongue$Parser" (384 : Nat) ({ cls := "WordTongue$Parser", name := "level", desc := "(I)LWordTongue$Node;" } : Jvm.MethodName)) ∈ lw_all := lw_g (lw_at lw_m9 15 rfl) rfl
theorem q2190 : (Jvm.Cond.privateMethod ({ cls := "WordTongue$Parser", name := "level", desc := "(I)LWordTongue$Node;" } : Jvm.MethodName)) ∈ lw_tbl := lw_at lw_m9 16 rfl
theorem q2191 : (Jvm.Cond.instanceMethod ({ cls := "WordTongue$Parser", name := "level", desc := "(I)LWordTongue$Node;" } : Jvm.MethodName)) ∈ lw_all := lw_g (lw_at lw_m9 17 rfl) rfl
theorem q2192 : (Jvm.Cond.code ({ cls := "WordTongue$Parser", name := "level", desc := "(I)LWordTongue$Node;" } : Jvm.MethodName) prog_12_method_31_code (5 : Nat) (Option.some (Jvm.ClassFile.FieldType.object "WordTongue$Node"))) ∈ lw_all := lw_g (lw_at lw_m9 18 rfl) rfl
theorem q2193 : (Jvm.Cond.methodLink "WordTongue$Parser" (398 : Nat) ({ cls := "WordTongue$Parser", name := "prefixed", desc := "()LWordTongue$Node;" } : Jvm.MethodName)) ∈ lw_all := lw_g (lw_at lw_m9 19 rfl) rfl
theorem q2194 : (Jvm.Cond.privateMethod ({ cls := "WordTongue$Parser", name := "prefixed", desc := "()LWordTongue$Node;" } : Jvm.MethodName)) ∈ lw_tbl := lw_at lw_m9 20 rfl
theorem q2195 : (Jvm.Cond.instanceMethod ({ cls := "WordTongue$Parser", name := "prefixed", desc := "()LWordTongue$Node;" } : Jvm.MethodName)) ∈ lw_all := lw_g (lw_at lw_m9 21 rfl) rfl
theorem q2196 : (Jvm.Cond.code ({ cls := "WordTongue$Parser", name := "prefixed", desc := "()LWordTongue$Node;" } : Jvm.MethodName) prog_12_method_33_code (4 : Nat) (Option.some (Jvm.ClassFile.FieldType.object "WordTongue$Node"))) ∈ lw_all := lw_g (lw_at lw_m9 22 rfl) rfl
theorem q2197 : (Jvm.Cond.stringRef "WordTongue$Parser" (415 : Nat) "+") ∈ lw_tbl := lw_at lw_m9 23 rfl
theorem q2198 : (Jvm.Cond.stringRef "WordTongue$Parser" (417 : Nat) "-") ∈ lw_tbl := lw_at lw_m9 24 rfl
theorem q2199 : (Jvm.Cond.stringRef "WordTongue$Parser" (419 : Nat) "~") ∈ lw_tbl := lw_at lw_m9 25 rfl
theorem q2200 : (Jvm.Cond.stringRef "WordTongue$Parser" (421 : Nat) "NOT") ∈ lw_tbl := lw_at lw_m9 26 rfl
theorem q2201 : (Jvm.Cond.methodLink "WordTongue$Parser" (423 : Nat) ({ cls := "WordTongue$Parser", name := "addressed", desc := "()LWordTongue$Node;" } : Jvm.MethodName)) ∈ lw_all := lw_g (lw_at lw_m9 27 rfl) rfl
theorem q2202 : (Jvm.Cond.privateMethod ({ cls := "WordTongue$Parser", name := "addressed", desc := "()LWordTongue$Node;" } : Jvm.MethodName)) ∈ lw_tbl := lw_at lw_m9 28 rfl
theorem q2203 : (Jvm.Cond.instanceMethod ({ cls := "WordTongue$Parser", name := "addressed", desc := "()LWordTongue$Node;" } : Jvm.MethodName)) ∈ lw_all := lw_g (lw_at lw_m9 29 rfl) rfl
theorem q2204 : (Jvm.Cond.code ({ cls := "WordTongue$Parser", name := "addressed", desc := "()LWordTongue$Node;" } : Jvm.MethodName) prog_12_method_35_code (6 : Nat) (Option.some (Jvm.ClassFile.FieldType.object "WordTongue$Node"))) ∈ lw_all := lw_g (lw_at lw_m9 30 rfl) rfl
theorem q2205 : (Jvm.Cond.stringRef "WordTongue$Parser" (434 : Nat) "!") ∈ lw_tbl := lw_at lw_m9 31 rfl
theorem q2206 : (Jvm.Cond.stringRef "WordTongue$Parser" (436 : Nat) "@") ∈ lw_tbl := lw_at lw_m9 32 rfl
theorem q2207 : (Jvm.Cond.methodLink "WordTongue$Parser" (438 : Nat) ({ cls := "WordTongue$Parser", name := "marked", desc := "(Z)LWordTongue$Node;" } : Jvm.MethodName)) ∈ lw_all := lw_g (lw_at lw_m9 33 rfl) rfl
theorem q2208 : (Jvm.Cond.privateMethod ({ cls := "WordTongue$Parser", name := "marked", desc := "(Z)LWordTongue$Node;" } : Jvm.MethodName)) ∈ lw_tbl := lw_at lw_m9 34 rfl
theorem q2209 : (Jvm.Cond.instanceMethod ({ cls := "WordTongue$Parser", name := "marked", desc := "(Z)LWordTongue$Node;" } : Jvm.MethodName)) ∈ lw_all := lw_g (lw_at lw_m9 35 rfl) rfl
theorem q2210 : (Jvm.Cond.code ({ cls := "WordTongue$Parser", name := "marked", desc := "(Z)LWordTongue$Node;" } : Jvm.MethodName) prog_12_method_34_code (4 : Nat) (Option.some (Jvm.ClassFile.FieldType.object "WordTongue$Node"))) ∈ lw_all := lw_g (lw_at lw_m9 36 rfl) rfl
theorem q2211 : (Jvm.Cond.methodLink "WordTongue$Parser" (441 : Nat) ({ cls := "WordTongue$Parser", name := "called", desc := "()LWordTongue$Node;" } : Jvm.MethodName)) ∈ lw_all := lw_g (lw_at lw_m9 37 rfl) rfl
theorem q2212 : (Jvm.Cond.privateMethod ({ cls := "WordTongue$Parser", name := "called", desc := "()LWordTongue$Node;" } : Jvm.MethodName)) ∈ lw_tbl := lw_at lw_m9 38 rfl
theorem q2213 : (Jvm.Cond.instanceMethod ({ cls := "WordTongue$Parser", name := "called", desc := "()LWordTongue$Node;" } : Jvm.MethodName)) ∈ lw_all := lw_g (lw_at lw_m9 39 rfl) rfl
theorem q2214 : (Jvm.Cond.code ({ cls := "WordTongue$Parser", name := "called", desc := "()LWordTongue$Node;" } : Jvm.MethodName) prog_12_method_36_code (3 : Nat) (Option.some (Jvm.ClassFile.FieldType.object "WordTongue$Node"))) ∈ lw_all := lw_g (lw_at lw_m9 40 rfl) rfl
theorem q2215 : (Jvm.Cond.methodLink "WordTongue$Parser" (455 : Nat) ({ cls := "WordTongue$Parser", name := "primary", desc := "()LWordTongue$Node;" } : Jvm.MethodName)) ∈ lw_all := lw_g (lw_at lw_m9 41 rfl) rfl
theorem q2216 : (Jvm.Cond.privateMethod ({ cls := "WordTongue$Parser", name := "primary", desc := "()LWordTongue$Node;" } : Jvm.MethodName)) ∈ lw_tbl := lw_at lw_m9 42 rfl
theorem q2217 : (Jvm.Cond.instanceMethod ({ cls := "WordTongue$Parser", name := "primary", desc := "()LWordTongue$Node;" } : Jvm.MethodName)) ∈ lw_all := lw_g (lw_at lw_m9 43 rfl) rfl
theorem q2218 : (Jvm.Cond.code ({ cls := "WordTongue$Parser", name := "primary", desc := "()LWordTongue$Node;" } : Jvm.MethodName) prog_12_method_37_code (3 : Nat) (Option.some (Jvm.ClassFile.FieldType.object "WordTongue$Node"))) ∈ lw_all := lw_g (lw_at lw_m9 44 rfl) rfl
theorem q2219 : (Jvm.Cond.fieldLink "WordTongue$Parser" (461 : Nat) "WordTongue$Kind" "NAME" "LWordTongue$Kind;") ∈ lw_all := lw_g (lw_at lw_m9 45 rfl) rfl
theorem q2221 : (Jvm.Cond.fieldLink "WordTongue$Parser" (464 : Nat) "WordTongue$Kind" "NUMBER" "LWordTongue$Kind;") ∈ lw_all := lw_g (lw_at lw_m9 47 rfl) rfl
theorem q2223 : (Jvm.Cond.fieldLink "WordTongue$Parser" (467 : Nat) "WordTongue$Kind" "STRING" "LWordTongue$Kind;") ∈ lw_all := lw_g (lw_at lw_m9 49 rfl) rfl
theorem q2225 : (Jvm.Cond.stringRef "WordTongue$Parser" (474 : Nat) "TRUE") ∈ lw_tbl := lw_at lw_m9 51 rfl
theorem q2226 : (Jvm.Cond.stringRef "WordTongue$Parser" (476 : Nat) "FALSE") ∈ lw_tbl := lw_at lw_m9 52 rfl
theorem q2227 : (Jvm.Cond.stringRef "WordTongue$Parser" (478 : Nat) "VALOF") ∈ lw_tbl := lw_at lw_m9 53 rfl
theorem q2228 : (Jvm.Cond.fieldLink "WordTongue$Parser" (480 : Nat) "WordTongue$Kind" "VALOF" "LWordTongue$Kind;") ∈ lw_all := lw_g (lw_at lw_m9 54 rfl) rfl
theorem q2230 : (Jvm.Cond.methodLink "WordTongue$Parser" (228 : Nat) ({ cls := "WordTongue$Parser", name := "command", desc := "()LWordTongue$Node;" } : Jvm.MethodName)) ∈ lw_all := lw_g (lw_at lw_m9 56 rfl) rfl
theorem q2231 : (Jvm.Cond.privateMethod ({ cls := "WordTongue$Parser", name := "command", desc := "()LWordTongue$Node;" } : Jvm.MethodName)) ∈ lw_tbl := lw_at lw_m9 57 rfl
theorem q2232 : (Jvm.Cond.instanceMethod ({ cls := "WordTongue$Parser", name := "command", desc := "()LWordTongue$Node;" } : Jvm.MethodName)) ∈ lw_all := lw_g (lw_at lw_m9 58 rfl) rfl
theorem q2233 : (Jvm.Cond.code ({ cls := "WordTongue$Parser", name := "command", desc := "()LWordTongue$Node;" } : Jvm.MethodName) prog_12_method_18_code (3 : Nat) (Option.some (Jvm.ClassFile.FieldType.object "WordTongue$Node"))) ∈ lw_all := lw_g (lw_at lw_m9 59 rfl) rfl
theorem q2234 : (Jvm.Cond.methodLink "WordTongue$Parser" (231 : Nat) ({ cls := "WordTongue$Parser", name := "simple", desc := "()LWordTongue$Node;" } : Jvm.MethodName)) ∈ lw_all := lw_g (lw_at lw_m9 60 rfl) rfl
theorem q2235 : (Jvm.Cond.privateMethod ({ cls := "WordTongue$Parser", name := "simple", desc := "()LWordTongue$Node;" } : Jvm.MethodName)) ∈ lw_tbl := lw_at lw_m9 61 rfl
theorem q2236 : (Jvm.Cond.instanceMethod ({ cls := "WordTongue$Parser", name := "simple", desc := "()LWordTongue$Node;" } : Jvm.MethodName)) ∈ lw_all := lw_g (lw_at lw_m9 62 rfl) rfl
theorem q2237 : (Jvm.Cond.code ({ cls := "WordTongue$Parser", name := "simple", desc := "()LWordTongue$Node;" } : Jvm.MethodName) prog_12_method_23_code (6 : Nat) (Option.some (Jvm.ClassFile.FieldType.object "WordTongue$Node"))) ∈ lw_all := lw_g (lw_at lw_m9 63 rfl) rfl
theorem q2238 : (Jvm.Cond.stringRef "WordTongue$Parser" (114 : Nat) ";") ∈ lw_tbl := lw_at lw_m9 64 rfl
theorem q2239 : (Jvm.Cond.stringRef "WordTongue$Parser" (91 : Nat) "$)") ∈ lw_tbl := lw_at lw_m9 65 rfl
theorem q2240 : (Jvm.Cond.fieldLink "WordTongue$Parser" (290 : Nat) "WordTongue$Kind" "NOTHING" "LWordTongue$Kind;") ∈ lw_all := lw_g (lw_at lw_m9 66 rfl) rfl
theorem q2242 : (Jvm.Cond.methodLink "WordTongue$Parser" (293 : Nat) ({ cls := "WordTongue$Parser", name := "assignment", desc := "()LWordTongue$Node;" } : Jvm.MethodName)) ∈ lw_all := lw_g (lw_at lw_m9 68 rfl) rfl
theorem q2243 : (Jvm.Cond.privateMethod ({ cls := "WordTongue$Parser", name := "assignment", desc := "()LWordTongue$Node;" } : Jvm.MethodName)) ∈ lw_tbl := lw_at lw_m9 69 rfl
theorem q2244 : (Jvm.Cond.instanceMethod ({ cls := "WordTongue$Parser", name := "assignment", desc := "()LWordTongue$Node;" } : Jvm.MethodName)) ∈ lw_all := lw_g (lw_at lw_m9 70 rfl) rfl
theorem q2245 : (Jvm.Cond.code ({ cls := "WordTongue$Parser", name := "assignment", desc := "()LWordTongue$Node;" } : Jvm.MethodName) prog_12_method_28_code (5 : Nat) (Option.some (Jvm.ClassFile.FieldType.object "WordTongue$Node"))) ∈ lw_all := lw_g (lw_at lw_m9 71 rfl) rfl
theorem q2246 : (Jvm.Cond.stringRef "WordTongue$Parser" (186 : Nat) ",") ∈ lw_tbl := lw_at lw_m9 72 rfl
theorem q2247 : (Jvm.Cond.methodLink "WordTongue$Parser" (116 : Nat) ({ cls := "WordTongue$Parser", name := "skip", desc := "(Ljava/lang/String;)Z" } : Jvm.MethodName)) ∈ lw_all := lw_g (lw_at lw_m9 73 rfl) rfl
theorem q2248 : (Jvm.Cond.privateMethod ({ cls := "WordTongue$Parser", name := "skip", desc := "(Ljava/lang/String;)Z" } : Jvm.MethodName)) ∈ lw_tbl := lw_at lw_m9 74 rfl
theorem q2249 : (Jvm.Cond.instanceMethod ({ cls := "WordTongue$Parser", name := "skip", desc := "(Ljava/lang/String;)Z" } : Jvm.MethodName)) ∈ lw_all := lw_g (lw_at lw_m9 75 rfl) rfl
theorem q2250 : (Jvm.Cond.code ({ cls := "WordTongue$Parser", name := "skip", desc := "(Ljava/lang/String;)Z" } : Jvm.MethodName) prog_12_method_5_code (2 : Nat) (Option.some Jvm.ClassFile.FieldType.boolean)) ∈ lw_all := lw_g (lw_at lw_m9 76 rfl) rfl
theorem q2251 : (Jvm.Cond.interfaceEntry "WordTongue$Parser" (93 : Nat)) ∈ lw_tbl := lw_at lw_m9 77 rfl
theorem q2252 : (Jvm.Cond.methodLink "WordTongue$Parser" (93 : Nat) ({ cls := "java/util/List", name := "size", desc := "()I" } : Jvm.MethodName)) ∈ lw_all := lw_g (lw_at lw_m9 78 rfl) rfl
theorem q2253 : (Jvm.Cond.fieldLink "WordTongue$Parser" (371 : Nat) "WordTongue$Kind" "CALL" "LWordTongue$Kind;") ∈ lw_all := lw_g (lw_at lw_m9 79 rfl) rfl
theorem q2255 : (Jvm.Cond.stringRef "WordTongue$Parser" (377 : Nat) ":=") ∈ lw_tbl := lw_at lw_m9 81 rfl
theorem q2256 : (Jvm.Cond.fieldLink "WordTongue$Parser" (379 : Nat) "WordTongue$Kind" "DO" "LWordTongue$Kind;") ∈ lw_all := lw_g (lw_at lw_m9 82 rfl) rfl
theorem q2258 : (Jvm.Cond.methodLink "WordTongue$Parser" (172 : Nat) ({ cls := "WordTongue$Node", name := "with", desc := "(LWordTongue$Node;)LWordTongue$Node;" } : Jvm.MethodName)) ∈ lw_all := lw_g (lw_at lw_m9 84 rfl) rfl
theorem q2264 : (Jvm.Cond.fieldLink "WordTongue$Parser" (381 : Nat) "WordTongue$Kind" "ASSIGN" "LWordTongue$Kind;") ∈ lw_all := lw_g (lw_at lw_m9 90 rfl) rfl
theorem q2266 : (Jvm.Cond.methodLink "WordTongue$Parser" (253 : Nat) ({ cls := "java/lang/String", name := "hashCode", desc := "()I" } : Jvm.MethodName)) ∈ lw_all := lw_g (lw_at lw_m9 92 rfl) rfl
theorem q2267 : (Jvm.Cond.stringRef "WordTongue$Parser" (256 : Nat) "IF") ∈ lw_tbl := lw_at lw_m9 93 rfl
theorem q2268 : (Jvm.Cond.stringRef "WordTongue$Parser" (258 : Nat) "UNLESS") ∈ lw_tbl := lw_at lw_m9 94 rfl
theorem q2269 : (Jvm.Cond.stringRef "WordTongue$Parser" (262 : Nat) "WHILE") ∈ lw_tbl := lw_at lw_m9 95 rfl
theorem q2270 : (Jvm.Cond.stringRef "WordTongue$Parser" (264 : Nat) "UNTIL") ∈ lw_tbl := lw_at lw_m9 96 rfl
theorem q2271 : (Jvm.Cond.stringRef "WordTongue$Parser" (260 : Nat) "TEST") ∈ lw_tbl := lw_at lw_m9 97 rfl
theorem q2272 : (Jvm.Cond.stringRef "WordTongue$Parser" (266 : Nat) "FOR") ∈ lw_tbl := lw_at lw_m9 98 rfl
theorem q2273 : (Jvm.Cond.stringRef "WordTongue$Parser" (268 : Nat) "SWITCHON") ∈ lw_tbl := lw_at lw_m9 99 rfl
theorem q2274 : (Jvm.Cond.stringRef "WordTongue$Parser" (270 : Nat) "BREAK") ∈ lw_tbl := lw_at lw_m9 100 rfl
theorem q2275 : (Jvm.Cond.stringRef "WordTongue$Parser" (272 : Nat) "LOOP") ∈ lw_tbl := lw_at lw_m9 101 rfl
theorem q2276 : (Jvm.Cond.stringRef "WordTongue$Parser" (274 : Nat) "ENDCASE") ∈ lw_tbl := lw_at lw_m9 102 rfl
theorem q2277 : (Jvm.Cond.stringRef "WordTongue$Parser" (276 : Nat) "RETURN") ∈ lw_tbl := lw_at lw_m9 103 rfl
theorem q2278 : (Jvm.Cond.stringRef "WordTongue$Parser" (278 : Nat) "RESULTIS") ∈ lw_tbl := lw_at lw_m9 104 rfl
theorem q2279 : (Jvm.Cond.stringRef "WordTongue$Parser" (280 : Nat) "FINISH") ∈ lw_tbl := lw_at lw_m9 105 rfl
theorem q2280 : (Jvm.Cond.stringRef "WordTongue$Parser" (282 : Nat) "GOTO") ∈ lw_tbl := lw_at lw_m9 106 rfl
theorem q2281 : (Jvm.Cond.methodLink "WordTongue$Parser" (296 : Nat) ({ cls := "WordTongue$Parser", name := "block", desc := "()LWordTongue$Node;" } : Jvm.MethodName)) ∈ lw_all := lw_g (lw_at lw_m9 107 rfl) rfl
theorem q2282 : (Jvm.Cond.privateMethod ({ cls := "WordTongue$Parser", name := "block", desc := "()LWordTongue$Node;" } : Jvm.MethodName)) ∈ lw_tbl := lw_at lw_m9 108 rfl
theorem q2283 : (Jvm.Cond.instanceMethod ({ cls := "WordTongue$Parser", name := "block", desc := "()LWordTongue$Node;" } : Jvm.MethodName)) ∈ lw_all := lw_g (lw_at lw_m9 109 rfl) rfl
theorem q2284 : (Jvm.Cond.code ({ cls := "WordTongue$Parser", name := "block", desc := "()LWordTongue$Node;" } : Jvm.MethodName) prog_12_method_26_code (3 : Nat) (Option.some (Jvm.ClassFile.FieldType.object "WordTongue$Node"))) ∈ lw_all := lw_g (lw_at lw_m9 110 rfl) rfl
theorem q2285 : (Jvm.Cond.fieldLink "WordTongue$Parser" (360 : Nat) "WordTongue$Kind" "BLOCK" "LWordTongue$Kind;") ∈ lw_all := lw_g (lw_at lw_m9 111 rfl) rfl
theorem q2287 : (Jvm.Cond.methodLink "WordTongue$Parser" (363 : Nat) ({ cls := "WordTongue$Parser", name := "isDeclaration", desc := "()Z" } : Jvm.MethodName)) ∈ lw_all := lw_g (lw_at lw_m9 113 rfl) rfl
theorem q2288 : (Jvm.Cond.privateMethod ({ cls := "WordTongue$Parser", name := "isDeclaration", desc := "()Z" } : Jvm.MethodName)) ∈ lw_tbl := lw_at lw_m9 114 rfl
theorem q2289 : (Jvm.Cond.instanceMethod ({ cls := "WordTongue$Parser", name := "isDeclaration", desc := "()Z" } : Jvm.MethodName)) ∈ lw_all := lw_g (lw_at lw_m9 115 rfl) rfl
theorem q2290 : (Jvm.Cond.code ({ cls := "WordTongue$Parser", name := "isDeclaration", desc := "()Z" } : Jvm.MethodName) prog_12_method_13_code (1 : Nat) (Option.some Jvm.ClassFile.FieldType.boolean)) ∈ lw_all := lw_g (lw_at lw_m9 116 rfl) rfl
theorem q2291 : (Jvm.Cond.stringRef "WordTongue$Parser" (121 : Nat) "MANIFEST") ∈ lw_tbl := lw_at lw_m9 117 rfl
theorem q2292 : (Jvm.Cond.stringRef "WordTongue$Parser" (123 : Nat) "STATIC") ∈ lw_tbl := lw_at lw_m9 118 rfl
theorem q2293 : (Jvm.Cond.stringRef "WordTongue$Parser" (125 : Nat) "LET") ∈ lw_tbl := lw_at lw_m9 119 rfl
theorem q2294 : (Jvm.Cond.methodLink "WordTongue$Parser" (356 : Nat) ({ cls := "WordTongue$Parser", name := "item", desc := "(LWordTongue$Node;)V" } : Jvm.MethodName)) ∈ lw_all := lw_g (lw_at lw_m9 120 rfl) rfl
theorem q2295 : (Jvm.Cond.privateMethod ({ cls := "WordTongue$Parser", name := "item", desc := "(LWordTongue$Node;)V" } : Jvm.MethodName)) ∈ lw_tbl := lw_at lw_m9 121 rfl
theorem q2296 : (Jvm.Cond.instanceMethod ({ cls := "WordTongue$Parser", name := "item", desc := "(LWordTongue$Node;)V" } : Jvm.MethodName)) ∈ lw_all := lw_g (lw_at lw_m9 122 rfl) rfl
theorem q2297 : (Jvm.Cond.code ({ cls := "WordTongue$Parser", name := "item", desc := "(LWordTongue$Node;)V" } : Jvm.MethodName) prog_12_method_27_code (4 : Nat) (Option.none : Option Jvm.ClassFile.FieldType)) ∈ lw_all := lw_g (lw_at lw_m9 123 rfl) rfl
theorem q2298 : (Jvm.Cond.fieldLink "WordTongue$Parser" (366 : Nat) "WordTongue$Kind" "LABEL" "LWordTongue$Kind;") ∈ lw_all := lw_g (lw_at lw_m9 124 rfl) rfl
theorem q2300 : (Jvm.Cond.methodLink "WordTongue$Parser" (206 : Nat) ({ cls := "WordTongue$Parser", name := "closes", desc := "()V" } : Jvm.MethodName)) ∈ lw_all := lw_g (lw_at lw_m9 126 rfl) rfl
theorem q2301 : (Jvm.Cond.privateMethod ({ cls := "WordTongue$Parser", name := "closes", desc := "()V" } : Jvm.MethodName)) ∈ lw_tbl := lw_at lw_m9 127 rfl
theorem q2302 : (Jvm.Cond.instanceMethod ({ cls := "WordTongue$Parser", name := "closes", desc := "()V" } : Jvm.MethodName)) ∈ lw_all := lw_g (lw_at lw_m9 128 rfl) rfl
theorem q2303 : (Jvm.Cond.code ({ cls := "WordTongue$Parser", name := "closes", desc := "()V" } : Jvm.MethodName) prog_12_method_10_code (3 : Nat) (Option.none : Option Jvm.ClassFile.FieldType)) ∈ lw_all := lw_g (lw_at lw_m9 129 rfl) rfl
theorem q2304 : (Jvm.Cond.interfaceEntry "WordTongue$Parser" (97 : Nat)) ∈ lw_tbl := lw_at lw_m9 130 rfl
theorem q2305 : (Jvm.Cond.methodLink "WordTongue$Parser" (97 : Nat) ({ cls := "java/util/List", name := "remove", desc := "(I)Ljava/lang/Object;" } : Jvm.MethodName)) ∈ lw_all := lw_g (lw_at lw_m9 131 rfl) rfl
theorem q2318 : (Jvm.Cond.classLink "WordTongue$Parser" (55 : Nat) "java/lang/String") ∈ lw_all := lw_g (lw_at lw_m9 144 rfl) rfl
theorem q2319 : (Jvm.Cond.methodLink "WordTongue$Parser" (100 : Nat) ({ cls := "java/lang/String", name := "isEmpty", desc := "()Z" } : Jvm.MethodName)) ∈ lw_all := lw_g (lw_at lw_m9 145 rfl) rfl
theorem q2323 : (Jvm.Cond.interfaceEntry "WordTongue$Parser" (104 : Nat)) ∈ lw_tbl := lw_at lw_m9 149 rfl
theorem q2324 : (Jvm.Cond.methodLink "WordTongue$Parser" (104 : Nat) ({ cls := "java/util/List", name := "contains", desc := "(Ljava/lang/Object;)Z" } : Jvm.MethodName)) ∈ lw_all := lw_g (lw_at lw_m9 150 rfl) rfl
theorem q2341 : (Jvm.Cond.fieldLink "WordTongue$Parser" (299 : Nat) "WordTongue$Kind" "IF" "LWordTongue$Kind;") ∈ lw_all := lw_g (lw_at lw_m9 167 rfl) rfl
theorem q2343 : (Jvm.Cond.methodLink "WordTongue$Parser" (301 : Nat) ({ cls := "WordTongue$Parser", name := "headed", desc := "(LWordTongue$Kind;)LWordTongue$Node;" } : Jvm.MethodName)) ∈ lw_all := lw_g (lw_at lw_m9 169 rfl) rfl
theorem q2344 : (Jvm.Cond.privateMethod ({ cls := "WordTongue$Parser", name := "headed", desc := "(LWordTongue$Kind;)LWordTongue$Node;" } : Jvm.MethodName)) ∈ lw_tbl := lw_at lw_m9 170 rfl
theorem q2345 : (Jvm.Cond.instanceMethod ({ cls := "WordTongue$Parser", name := "headed", desc := "(LWordTongue$Kind;)LWordTongue$Node;" } : Jvm.MethodName)) ∈ lw_all := lw_g (lw_at lw_m9 171 rfl) rfl
theorem q2346 : (Jvm.Cond.code ({ cls := "WordTongue$Parser", name := "headed", desc := "(LWordTongue$Kind;)LWordTongue$Node;" } : Jvm.MethodName) prog_12_method_22_code (3 : Nat) (Option.some (Jvm.ClassFile.FieldType.object "WordTongue$Node"))) ∈ lw_all := lw_g (lw_at lw_m9 172 rfl) rfl
theorem q2347 : (Jvm.Cond.methodLink "WordTongue$Parser" (284 : Nat) ({ cls := "WordTongue$Parser", name := "then", desc := "()V" } : Jvm.MethodName)) ∈ lw_all := lw_g (lw_at lw_m9 173 rfl) rfl
theorem q2348 : (Jvm.Cond.privateMethod ({ cls := "WordTongue$Parser", name := "then", desc := "()V" } : Jvm.MethodName)) ∈ lw_tbl := lw_at lw_m9 174 rfl
theorem q2349 : (Jvm.Cond.instanceMethod ({ cls := "WordTongue$Parser", name := "then", desc := "()V" } : Jvm.MethodName)) ∈ lw_all := lw_g (lw_at lw_m9 175 rfl) rfl
theorem q2350 : (Jvm.Cond.code ({ cls := "WordTongue$Parser", name := "then", desc := "()V" } : Jvm.MethodName) prog_12_method_19_code (3 : Nat) (Option.none : Option Jvm.ClassFile.FieldType)) ∈ lw_all := lw_g (lw_at lw_m9 176 rfl) rfl
theorem q2351 : (Jvm.Cond.stringRef "WordTongue$Parser" (246 : Nat) "DO") ∈ lw_tbl := lw_at lw_m9 177 rfl
theorem q2352 : (Jvm.Cond.stringRef "WordTongue$Parser" (248 : Nat) "THEN") ∈ lw_tbl := lw_at lw_m9 178 rfl
theorem q2353 : (Jvm.Cond.methodLink "WordTongue$Parser" (250 : Nat) ({ cls := "WordTongue$Parser", name := "commands", desc := "(Ljava/lang/String;)Z" } : Jvm.MethodName)) ∈ lw_all := lw_g (lw_at lw_m9 179 rfl) rfl
theorem q2354 : (Jvm.Cond.static ({ cls := "WordTongue$Parser", name := "commands", desc := "(Ljava/lang/String;)Z" } : Jvm.MethodName)) ∈ lw_all := lw_g (lw_at lw_m9 180 rfl) rfl
theorem q2355 : (Jvm.Cond.code ({ cls := "WordTongue$Parser", name := "commands", desc := "(Ljava/lang/String;)Z" } : Jvm.MethodName) prog_12_method_20_code (3 : Nat) (Option.some Jvm.ClassFile.FieldType.boolean)) ∈ lw_all := lw_g (lw_at lw_m9 181 rfl) rfl
theorem q2356 : (Jvm.Cond.methodLink "WordTongue$Parser" (287 : Nat) ({ cls := "WordTongue$Parser", name := "inner", desc := "()LWordTongue$Node;" } : Jvm.MethodName)) ∈ lw_all := lw_g (lw_at lw_m9 182 rfl) rfl
theorem q2357 : (Jvm.Cond.privateMethod ({ cls := "WordTongue$Parser", name := "inner", desc := "()LWordTongue$Node;" } : Jvm.MethodName)) ∈ lw_tbl := lw_at lw_m9 183 rfl
theorem q2358 : (Jvm.Cond.instanceMethod ({ cls := "WordTongue$Parser", name := "inner", desc := "()LWordTongue$Node;" } : Jvm.MethodName)) ∈ lw_all := lw_g (lw_at lw_m9 184 rfl) rfl
theorem q2359 : (Jvm.Cond.code ({ cls := "WordTongue$Parser", name := "inner", desc := "()LWordTongue$Node;" } : Jvm.MethodName) prog_12_method_21_code (2 : Nat) (Option.some (Jvm.ClassFile.FieldType.object "WordTongue$Node"))) ∈ lw_all := lw_g (lw_at lw_m9 185 rfl) rfl
theorem q2360 : (Jvm.Cond.fieldLink "WordTongue$Parser" (305 : Nat) "WordTongue$Kind" "UNLESS" "LWordTongue$Kind;") ∈ lw_all := lw_g (lw_at lw_m9 186 rfl) rfl
theorem q2362 : (Jvm.Cond.fieldLink "WordTongue$Parser" (307 : Nat) "WordTongue$Kind" "WHILE" "LWordTongue$Kind;") ∈ lw_all := lw_g (lw_at lw_m9 188 rfl) rfl
theorem q2364 : (Jvm.Cond.fieldLink "WordTongue$Parser" (309 : Nat) "WordTongue$Kind" "UNTIL" "LWordTongue$Kind;") ∈ lw_all := lw_g (lw_at lw_m9 190 rfl) rfl
theorem q2366 : (Jvm.Cond.fieldLink "WordTongue$Parser" (311 : Nat) "WordTongue$Kind" "TEST" "LWordTongue$Kind;") ∈ lw_all := lw_g (lw_at lw_m9 192 rfl) rfl
theorem q2368 : (Jvm.Cond.stringRef "WordTongue$Parser" (313 : Nat) "OR") ∈ lw_tbl := lw_at lw_m9 194 rfl
theorem q2369 : (Jvm.Cond.stringRef "WordTongue$Parser" (315 : Nat) "ELSE") ∈ lw_tbl := lw_at lw_m9 195 rfl
theorem q2370 : (Jvm.Cond.methodLink "WordTongue$Parser" (317 : Nat) ({ cls := "WordTongue$Parser", name := "loop", desc := "()LWordTongue$Node;" } : Jvm.MethodName)) ∈ lw_all := lw_g (lw_at lw_m9 196 rfl) rfl
theorem q2371 : (Jvm.Cond.privateMethod ({ cls := "WordTongue$Parser", name := "loop", desc := "()LWordTongue$Node;" } : Jvm.MethodName)) ∈ lw_tbl := lw_at lw_m9 197 rfl
theorem q2372 : (Jvm.Cond.instanceMethod ({ cls := "WordTongue$Parser", name := "loop", desc := "()LWordTongue$Node;" } : Jvm.MethodName)) ∈ lw_all := lw_g (lw_at lw_m9 198 rfl) rfl
theorem q2373 : (Jvm.Cond.code ({ cls := "WordTongue$Parser", name := "loop", desc := "()LWordTongue$Node;" } : Jvm.MethodName) prog_12_method_24_code (4 : Nat) (Option.some (Jvm.ClassFile.FieldType.object "WordTongue$Node"))) ∈ lw_all := lw_g (lw_at lw_m9 199 rfl) rfl
theorem q2374 : (Jvm.Cond.fieldLink "WordTongue$Parser" (337 : Nat) "WordTongue$Kind" "FOR" "LWordTongue$Kind;") ∈ lw_all := lw_g (lw_at lw_m9 200 rfl) rfl
theorem q2376 : (Jvm.Cond.stringRef "WordTongue$Parser" (153 : Nat) "=") ∈ lw_tbl := lw_at lw_m9 202 rfl
theorem q2377 : (Jvm.Cond.stringRef "WordTongue$Parser" (339 : Nat) "TO") ∈ lw_tbl := lw_at lw_m9 203 rfl
theorem q2378 : (Jvm.Cond.stringRef "WordTongue$Parser" (341 : Nat) "BY") ∈ lw_tbl := lw_at lw_m9 204 rfl
theorem q2379 : (Jvm.Cond.methodLink "WordTongue$Parser" (320 : Nat) ({ cls := "WordTongue$Parser", name := "choice", desc := "()LWordTongue$Node;" } : Jvm.MethodName)) ∈ lw_all := lw_g (lw_at lw_m9 205 rfl) rfl
theorem q2380 : (Jvm.Cond.privateMethod ({ cls := "WordTongue$Parser", name := "choice", desc := "()LWordTongue$Node;" } : Jvm.MethodName)) ∈ lw_tbl := lw_at lw_m9 206 rfl
theorem q2381 : (Jvm.Cond.instanceMethod ({ cls := "WordTongue$Parser", name := "choice", desc := "()LWordTongue$Node;" } : Jvm.MethodName)) ∈ lw_all := lw_g (lw_at lw_m9 207 rfl) rfl
theorem q2382 : (Jvm.Cond.code ({ cls := "WordTongue$Parser", name := "choice", desc := "()LWordTongue$Node;" } : Jvm.MethodName) prog_12_method_25_code (4 : Nat) (Option.some (Jvm.ClassFile.FieldType.object "WordTongue$Node"))) ∈ lw_all := lw_g (lw_at lw_m9 208 rfl) rfl
theorem q2383 : (Jvm.Cond.fieldLink "WordTongue$Parser" (343 : Nat) "WordTongue$Kind" "SWITCH" "LWordTongue$Kind;") ∈ lw_all := lw_g (lw_at lw_m9 209 rfl) rfl
theorem q2385 : (Jvm.Cond.stringRef "WordTongue$Parser" (346 : Nat) "INTO") ∈ lw_tbl := lw_at lw_m9 211 rfl
theorem q2386 : (Jvm.Cond.stringRef "WordTongue$Parser" (348 : Nat) "CASE") ∈ lw_tbl := lw_at lw_m9 212 rfl
theorem q2387 : (Jvm.Cond.stringRef "WordTongue$Parser" (350 : Nat) "DEFAULT") ∈ lw_tbl := lw_at lw_m9 213 rfl
theorem q2388 : (Jvm.Cond.fieldLink "WordTongue$Parser" (352 : Nat) "WordTongue$Kind" "CASE" "LWordTongue$Kind;") ∈ lw_all := lw_g (lw_at lw_m9 214 rfl) rfl
theorem q2390 : (Jvm.Cond.fieldLink "WordTongue$Parser" (354 : Nat) "WordTongue$Kind" "DEFAULT" "LWordTongue$Kind;") ∈ lw_all := lw_g (lw_at lw_m9 216 rfl) rfl
theorem q2392 : (Jvm.Cond.fieldLink "WordTongue$Parser" (323 : Nat) "WordTongue$Kind" "BREAK" "LWordTongue$Kind;") ∈ lw_all := lw_g (lw_at lw_m9 218 rfl) rfl
theorem q2394 : (Jvm.Cond.fieldLink "WordTongue$Parser" (325 : Nat) "WordTongue$Kind" "LOOP" "LWordTongue$Kind;") ∈ lw_all := lw_g (lw_at lw_m9 220 rfl) rfl
theorem q2396 : (Jvm.Cond.fieldLink "WordTongue$Parser" (327 : Nat) "WordTongue$Kind" "ENDCASE" "LWordTongue$Kind;") ∈ lw_all := lw_g (lw_at lw_m9 222 rfl) rfl
theorem q2398 : (Jvm.Cond.fieldLink "WordTongue$Parser" (329 : Nat) "WordTongue$Kind" "RETURN" "LWordTongue$Kind;") ∈ lw_all := lw_g (lw_at lw_m9 224 rfl) rfl
theorem q2400 : (Jvm.Cond.fieldLink "WordTongue$Parser" (331 : Nat) "WordTongue$Kind" "RESULTIS" "LWordTongue$Kind;") ∈ lw_all := lw_g (lw_at lw_m9 226 rfl) rfl
theorem q2402 : (Jvm.Cond.fieldLink "WordTongue$Parser" (333 : Nat) "WordTongue$Kind" "FINISH" "LWordTongue$Kind;") ∈ lw_all := lw_g (lw_at lw_m9 228 rfl) rfl
theorem q2404 : (Jvm.Cond.fieldLink "WordTongue$Parser" (335 : Nat) "WordTongue$Kind" "GOTO" "LWordTongue$Kind;") ∈ lw_all := lw_g (lw_at lw_m9 230 rfl) rfl
theorem q2406 : (Jvm.Cond.stringRef "WordTongue$Parser" (234 : Nat) "REPEAT") ∈ lw_tbl := lw_at lw_m9 232 rfl
theorem q2407 : (Jvm.Cond.stringRef "WordTongue$Parser" (236 : Nat) "REPEATWHILE") ∈ lw_tbl := lw_at lw_m9 233 rfl
theorem q2408 : (Jvm.Cond.stringRef "WordTongue$Parser" (238 : Nat) "REPEATUNTIL") ∈ lw_tbl := lw_at lw_m9 234 rfl
theorem q2409 : (Jvm.Cond.fieldLink "WordTongue$Parser" (240 : Nat) "WordTongue$Kind" "REPEAT" "LWordTongue$Kind;") ∈ lw_all := lw_g (lw_at lw_m9 235 rfl) rfl
theorem q2411 : (Jvm.Cond.fieldLink "WordTongue$Parser" (242 : Nat) "WordTongue$Kind" "REPEATWHILE" "LWordTongue$Kind;") ∈ lw_all := lw_g (lw_at lw_m9 237 rfl) rfl
theorem q2413 : (Jvm.Cond.fieldLink "WordTongue$Parser" (244 : Nat) "WordTongue$Kind" "REPEATUNTIL" "LWordTongue$Kind;") ∈ lw_all := lw_g (lw_at lw_m9 239 rfl) rfl
theorem q2415 : (Jvm.Cond.stringRef "WordTongue$Parser" (482 : Nat) "TABLE") ∈ lw_tbl := lw_at lw_m10 1 rfl
theorem q2416 : (Jvm.Cond.fieldLink "WordTongue$Parser" (484 : Nat) "WordTongue$Kind" "TABLE" "LWordTongue$Kind;") ∈ lw_all := lw_g (lw_at lw_m10 2 rfl) rfl
theorem q2418 : (Jvm.Cond.stringRef "WordTongue$Parser" (160 : Nat) "(") ∈ lw_tbl := lw_at lw_m10 4 rfl
theorem q2419 : (Jvm.Cond.stringRef "WordTongue$Parser" (221 : Nat) ")") ∈ lw_tbl := lw_at lw_m10 5 rfl
theorem q2420 : (Jvm.Cond.methodLink "WordTongue$Parser" (458 : Nat) ({ cls := "WordTongue$Node", name := "parts", desc := "()I" } : Jvm.MethodName)) ∈ lw_all := lw_g (lw_at lw_m10 6 rfl) rfl
theorem q2426 : (Jvm.Cond.fieldLink "WordTongue$Parser" (444 : Nat) "WordTongue$Kind" "LOAD" "LWordTongue$Kind;") ∈ lw_all := lw_g (lw_at lw_m10 12 rfl) rfl
theorem q2428 : (Jvm.Cond.fieldLink "WordTongue$Parser" (447 : Nat) "WordTongue$Kind" "ADDRESS" "LWordTongue$Kind;") ∈ lw_all := lw_g (lw_at lw_m10 14 rfl) rfl
theorem q2430 : (Jvm.Cond.stringRef "WordTongue$Parser" (450 : Nat) "%") ∈ lw_tbl := lw_at lw_m10 16 rfl
theorem q2431 : (Jvm.Cond.fieldLink "WordTongue$Parser" (452 : Nat) "WordTongue$Kind" "BYTE" "LWordTongue$Kind;") ∈ lw_all := lw_g (lw_at lw_m10 17 rfl) rfl
theorem q2433 : (Jvm.Cond.fieldLink "WordTongue$Parser" (426 : Nat) "WordTongue$Kind" "PLUS" "LWordTongue$Kind;") ∈ lw_all := lw_g (lw_at lw_m10 19 rfl) rfl
theorem q2435 : (Jvm.Cond.fieldLink "WordTongue$Parser" (429 : Nat) "WordTongue$Kind" "MINUS" "LWordTongue$Kind;") ∈ lw_all := lw_g (lw_at lw_m10 21 rfl) rfl
theorem q2437 : (Jvm.Cond.fieldLink "WordTongue$Parser" (432 : Nat) "WordTongue$Kind" "NOT" "LWordTongue$Kind;") ∈ lw_all := lw_g (lw_at lw_m10 23 rfl) rfl
theorem q2439 : (Jvm.Cond.methodLink "WordTongue$Parser" (401 : Nat) ({ cls := "WordTongue$Parser", name := "isOf", desc := "(I)Z" } : Jvm.MethodName)) ∈ lw_all := lw_g (lw_at lw_m10 25 rfl) rfl
theorem q2440 : (Jvm.Cond.privateMethod ({ cls := "WordTongue$Parser", name := "isOf", desc := "(I)Z" } : Jvm.MethodName)) ∈ lw_tbl := lw_at lw_m10 26 rfl
theorem q2441 : (Jvm.Cond.instanceMethod ({ cls := "WordTongue$Parser", name := "isOf", desc := "(I)Z" } : Jvm.MethodName)) ∈ lw_all := lw_g (lw_at lw_m10 27 rfl) rfl
theorem q2442 : (Jvm.Cond.code ({ cls := "WordTongue$Parser", name := "isOf", desc := "(I)Z" } : Jvm.MethodName) prog_12_method_30_code (2 : Nat) (Option.some Jvm.ClassFile.FieldType.boolean)) ∈ lw_all := lw_g (lw_at lw_m10 28 rfl) rfl
theorem q2443 : (Jvm.Cond.methodLink "WordTongue$Parser" (405 : Nat) ({ cls := "WordTongue$Parser", name := "compared", desc := "(LWordTongue$Node;)LWordTongue$Node;" } : Jvm.MethodName)) ∈ lw_all := lw_g (lw_at lw_m10 29 rfl) rfl
theorem q2444 : (Jvm.Cond.privateMethod ({ cls := "WordTongue$Parser", name := "compared", desc := "(LWordTongue$Node;)LWordTongue$Node;" } : Jvm.MethodName)) ∈ lw_tbl := lw_at lw_m10 30 rfl
theorem q2445 : (Jvm.Cond.instanceMethod ({ cls := "WordTongue$Parser", name := "compared", desc := "(LWordTongue$Node;)LWordTongue$Node;" } : Jvm.MethodName)) ∈ lw_all := lw_g (lw_at lw_m10 31 rfl) rfl
theorem q2446 : (Jvm.Cond.code ({ cls := "WordTongue$Parser", name := "compared", desc := "(LWordTongue$Node;)LWordTongue$Node;" } : Jvm.MethodName) prog_12_method_32_code (3 : Nat) (Option.some (Jvm.ClassFile.FieldType.object "WordTongue$Node"))) ∈ lw_all := lw_g (lw_at lw_m10 32 rfl) rfl
theorem q2447 : (Jvm.Cond.classLink "WordTongue$Parser" (178 : Nat) "WordTongue$Listed") ∈ lw_all := lw_g (lw_at lw_m10 33 rfl) rfl
theorem q2449 : (Jvm.Cond.fieldLink "WordTongue$Parser" (411 : Nat) "WordTongue$Kind" "COMPARE" "LWordTongue$Kind;") ∈ lw_all := lw_g (lw_at lw_m10 35 rfl) rfl
theorem q2451 : (Jvm.Cond.methodLink "WordTongue$Parser" (182 : Nat) ({ cls := "WordTongue$Listed", name := "<init>", desc := "(LWordTongue$Kind;I)V" } : Jvm.MethodName)) ∈ lw_all := lw_g (lw_at lw_m10 37 rfl) rfl
theorem q2459 : (Jvm.Cond.fieldLink "WordTongue$Parser" (183 : Nat) "WordTongue$Listed" "names" "Ljava/util/List;") ∈ lw_all := lw_g (lw_at lw_m10 45 rfl) rfl
theorem q2460 : (Jvm.Cond.fieldLink "WordTongue$Parser" (213 : Nat) "WordTongue$Listed" "outside" "Z") ∈ lw_all := lw_g (lw_at lw_m10 46 rfl) rfl
theorem q2463 : (Jvm.Cond.fieldLink "WordTongue$Parser" (218 : Nat) "WordTongue$Listed" "global" "Z") ∈ lw_all := lw_g (lw_at lw_m10 49 rfl) rfl
theorem q2464 : (Jvm.Cond.fieldLink "WordTongue$Parser" (223 : Nat) "WordTongue$Listed" "gives" "Z") ∈ lw_all := lw_g (lw_at lw_m10 50 rfl) rfl
theorem q2487 : (Jvm.Cond.methodLink "WordTongue$Parser" (192 : Nat) ({ cls := "WordTongue$Listed", name := "with", desc := "(LWordTongue$Node;)LWordTongue$Node;" } : Jvm.MethodName)) ∈ lw_all := lw_g (lw_at lw_m10 73 rfl) rfl
theorem q2491 : (Jvm.Cond.fieldLink "WordTongue$Parser" (408 : Nat) "WordTongue$Kind" "BINARY" "LWordTongue$Kind;") ∈ lw_all := lw_g (lw_at lw_m10 77 rfl) rfl
theorem q2493 : (Jvm.Cond.stringRef "WordTongue$Parser" (388 : Nat) "->") ∈ lw_tbl := lw_at lw_m10 79 rfl
theorem q2494 : (Jvm.Cond.fieldLink "WordTongue$Parser" (390 : Nat) "WordTongue$Kind" "CHOOSE" "LWordTongue$Kind;") ∈ lw_all := lw_g (lw_at lw_m10 80 rfl) rfl
theorem q2496 : (Jvm.Cond.interfaceEntry "WordTongue$Parser" (145 : Nat)) ∈ lw_tbl := lw_at lw_m10 82 rfl
theorem q2497 : (Jvm.Cond.methodLink "WordTongue$Parser" (145 : Nat) ({ cls := "java/util/Set", name := "add", desc := "(Ljava/lang/Object;)Z" } : Jvm.MethodName)) ∈ lw_all := lw_g (lw_at lw_m10 83 rfl) rfl
theorem q2509 : (Jvm.Cond.fieldLink "WordTongue$Parser" (151 : Nat) "WordTongue$Kind" "MANIFEST" "LWordTongue$Kind;") ∈ lw_all := lw_g (lw_at lw_m10 95 rfl) rfl
theorem q2511 : (Jvm.Cond.fieldLink "WordTongue$Parser" (162 : Nat) "WordTongue$Kind" "ROUTINES" "LWordTongue$Kind;") ∈ lw_all := lw_g (lw_at lw_m10 97 rfl) rfl
theorem q2513 : (Jvm.Cond.methodLink "WordTongue$Parser" (168 : Nat) ({ cls := "WordTongue$Parser", name := "routine", desc := "(LWordTongue$Token;Z)LWordTongue$Node;" } : Jvm.MethodName)) ∈ lw_all := lw_g (lw_at lw_m10 99 rfl) rfl
theorem q2514 : (Jvm.Cond.privateMethod ({ cls := "WordTongue$Parser", name := "routine", desc := "(LWordTongue$Token;Z)LWordTongue$Node;" } : Jvm.MethodName)) ∈ lw_tbl := lw_at lw_m10 100 rfl
theorem q2515 : (Jvm.Cond.instanceMethod ({ cls := "WordTongue$Parser", name := "routine", desc := "(LWordTongue$Token;Z)LWordTongue$Node;" } : Jvm.MethodName)) ∈ lw_all := lw_g (lw_at lw_m10 101 rfl) rfl
theorem q2516 : (Jvm.Cond.code ({ cls := "WordTongue$Parser", name := "routine", desc := "(LWordTongue$Token;Z)LWordTongue$Node;" } : Jvm.MethodName) prog_12_method_17_code (4 : Nat) (Option.some (Jvm.ClassFile.FieldType.object "WordTongue$Node"))) ∈ lw_all := lw_g (lw_at lw_m10 102 rfl) rfl
theorem q2517 : (Jvm.Cond.fieldLink "WordTongue$Parser" (209 : Nat) "WordTongue$Kind" "ROUTINE" "LWordTongue$Kind;") ∈ lw_all := lw_g (lw_at lw_m10 103 rfl) rfl
theorem q2519 : (Jvm.Cond.interfaceEntry "WordTongue$Parser" (217 : Nat)) ∈ lw_tbl := lw_at lw_m10 105 rfl
theorem q2520 : (Jvm.Cond.methodLink "WordTongue$Parser" (217 : Nat) ({ cls := "java/util/Set", name := "contains", desc := "(Ljava/lang/Object;)Z" } : Jvm.MethodName)) ∈ lw_all := lw_g (lw_at lw_m10 106 rfl) rfl
theorem q2540 : (Jvm.Cond.stringRef "WordTongue$Parser" (226 : Nat) "BE") ∈ lw_tbl := lw_at lw_m10 126 rfl
theorem q2541 : (Jvm.Cond.stringRef "WordTongue$Parser" (176 : Nat) "AND") ∈ lw_tbl := lw_at lw_m10 127 rfl
theorem q2542 : (Jvm.Cond.fieldLink "WordTongue$Parser" (180 : Nat) "WordTongue$Kind" "LET" "LWordTongue$Kind;") ∈ lw_all := lw_g (lw_at lw_m10 128 rfl) rfl
theorem q2544 : (Jvm.Cond.methodLink "WordTongue$Parser" (188 : Nat) ({ cls := "WordTongue$Parser", name := "initial", desc := "()LWordTongue$Node;" } : Jvm.MethodName)) ∈ lw_all := lw_g (lw_at lw_m10 130 rfl) rfl
theorem q2545 : (Jvm.Cond.privateMethod ({ cls := "WordTongue$Parser", name := "initial", desc := "()LWordTongue$Node;" } : Jvm.MethodName)) ∈ lw_tbl := lw_at lw_m10 131 rfl
theorem q2546 : (Jvm.Cond.instanceMethod ({ cls := "WordTongue$Parser", name := "initial", desc := "()LWordTongue$Node;" } : Jvm.MethodName)) ∈ lw_all := lw_g (lw_at lw_m10 132 rfl) rfl
theorem q2547 : (Jvm.Cond.code ({ cls := "WordTongue$Parser", name := "initial", desc := "()LWordTongue$Node;" } : Jvm.MethodName) prog_12_method_15_code (2 : Nat) (Option.some (Jvm.ClassFile.FieldType.object "WordTongue$Node"))) ∈ lw_all := lw_g (lw_at lw_m10 133 rfl) rfl
theorem q2548 : (Jvm.Cond.stringRef "WordTongue$Parser" (193 : Nat) "VEC") ∈ lw_tbl := lw_at lw_m10 134 rfl
theorem q2549 : (Jvm.Cond.fieldLink "WordTongue$Parser" (198 : Nat) "WordTongue$Kind" "VEC" "LWordTongue$Kind;") ∈ lw_all := lw_g (lw_at lw_m10 135 rfl) rfl
theorem q4348 : (Jvm.Cond.castable "WordTongue$Parser" "java/lang/Object") ∈ lw_tbl := lw_at lw_m18 14 rfl
theorem in_X13 : ∀ w ∈ wsX130, w ∈ lw_all := lw_in wsX130 [2055, 2057, 2059, 2061, 2063, 2065] (by decide +kernel) (by decide +kernel)
/-! WordTongue$Node -/
set_option maxRecDepth 100000
def RX14 : String := "WordTongue$Node"
def TX14 : u_T := fun k => match k with
  | 0 => ("WordTongue$Node", "kind", "LWordTongue$Kind;", true)
  | 1 => ("WordTongue$Node", "place", "I", true)
  | 2 => ("WordTongue$Node", "from", "I", false)
  | 3 => ("WordTongue$Node", "apart", "Z", false)
  | 4 => ("WordTongue$Node", "text", "Ljava/lang/String;", false)
  | 5 => ("WordTongue$Node", "value", "I", false)
  | 6 => ("WordTongue$Node", "first", "LWordTongue$Node;", false)
  | 7 => ("WordTongue$Node", "last", "LWordTongue$Node;", false)
  | _ => ("WordTongue$Node", "next", "LWordTongue$Node;", false)
def tyX14 : Nat → FieldType := fun k => match k with
  | 0 => .object "WordTongue$Kind"
  | 1 => .int
  | 2 => .int
  | 3 => .boolean
  | 4 => .object "java/lang/String"
  | 5 => .int
  | 6 => .object "WordTongue$Node"
  | 7 => .object "WordTongue$Node"
  | _ => .object "WordTongue$Node"
abbrev wsX140 : List Cond := u_ws RX14 TX14 9
theorem nmX14 : ∀ a, a < 9 → ∀ b, b < 9 → a ≠ b → (TX14 a).2.1 ≠ (TX14 b).2.1 := by decide +kernel
theorem tyX14_ok : ∀ k, k < 9 → parseFieldDescriptor (TX14 k).2.2.1 = some (tyX14 k) := by decide +kernel
abbrev cX14_init : ByteArray := prog_11_method_1_code
def yX14_init : MethodName := ⟨RX14, "<init>", "(LWordTongue$Kind;I)V"⟩
abbrev cX14_with : ByteArray := prog_11_method_2_code
def yX14_with : MethodName := ⟨RX14, "with", "(LWordTongue$Node;)LWordTongue$Node;"⟩
abbrev cX14_parts : ByteArray := prog_11_method_4_code
def yX14_parts : MethodName := ⟨RX14, "parts", "()I"⟩
abbrev cX14_part : ByteArray := prog_11_method_3_code
def yX14_part : MethodName := ⟨RX14, "part", "(I)LWordTongue$Node;"⟩
theorem q301 : (Jvm.Cond.initialized "WordTongue$Node") ∈ lw_all := lw_g (lw_at lw_m1 47 rfl) rfl
theorem q690 : (Jvm.Cond.selects "WordTongue$Node" ({ cls := "java/lang/Object", name := "hashCode", desc := "()I" } : Jvm.MethodName) ({ cls := "java/lang/Object", name := "hashCode", desc := "()I" } : Jvm.MethodName)) ∈ lw_all := lw_g (lw_at lw_m2 196 rfl) rfl
theorem q835 : (Jvm.Cond.selects "WordTongue$Node" ({ cls := "java/lang/Object", name := "getClass", desc := "()Ljava/lang/Class;" } : Jvm.MethodName) ({ cls := "java/lang/Object", name := "getClass", desc := "()Ljava/lang/Class;" } : Jvm.MethodName)) ∈ lw_all := lw_g (lw_at lw_m3 101 rfl) rfl
theorem q1121 : (Jvm.Cond.selects "WordTongue$Node" ({ cls := "java/lang/Object", name := "equals", desc := "(Ljava/lang/Object;)Z" } : Jvm.MethodName) ({ cls := "java/lang/Object", name := "equals", desc := "(Ljava/lang/Object;)Z" } : Jvm.MethodName)) ∈ lw_all := lw_g (lw_at lw_m4 147 rfl) rfl
theorem q2097 : (Jvm.Cond.instantiable "WordTongue$Node" (9 : Nat)) ∈ lw_all := lw_g (lw_at lw_m8 163 rfl) rfl
theorem q2103 : (Jvm.Cond.instanceMethod ({ cls := "WordTongue$Node", name := "<init>", desc := "(LWordTongue$Kind;I)V" } : Jvm.MethodName)) ∈ lw_all := lw_g (lw_at lw_m8 169 rfl) rfl
theorem q2104 : (Jvm.Cond.code ({ cls := "WordTongue$Node", name := "<init>", desc := "(LWordTongue$Kind;I)V" } : Jvm.MethodName) prog_11_method_1_code (3 : Nat) (Option.none : Option Jvm.ClassFile.FieldType)) ∈ lw_all := lw_g (lw_at lw_m8 170 rfl) rfl
theorem q2105 : (Jvm.Cond.methodLink "WordTongue$Node" (1 : Nat) ({ cls := "java/lang/Object", name := "<init>", desc := "()V" } : Jvm.MethodName)) ∈ lw_all := lw_g (lw_at lw_m8 171 rfl) rfl
theorem q2106 : (Jvm.Cond.stringRef "WordTongue$Node" (7 : Nat) "") ∈ lw_tbl := lw_at lw_m8 172 rfl
theorem q2107 : (Jvm.Cond.fieldLink "WordTongue$Node" (15 : Nat) "WordTongue$Node" "kind" "LWordTongue$Kind;") ∈ lw_all := lw_g (lw_at lw_m8 173 rfl) rfl
theorem q2110 : (Jvm.Cond.fieldLink "WordTongue$Node" (19 : Nat) "WordTongue$Node" "place" "I") ∈ lw_all := lw_g (lw_at lw_m8 176 rfl) rfl
theorem q2114 : (Jvm.Cond.fieldLink "WordTongue$Node" (23 : Nat) "WordTongue$Node" "from" "I") ∈ lw_all := lw_g (lw_at lw_m8 180 rfl) rfl
theorem q2120 : (Jvm.Cond.fieldLink "WordTongue$Node" (9 : Nat) "WordTongue$Node" "text" "Ljava/lang/String;") ∈ lw_all := lw_g (lw_at lw_m8 186 rfl) rfl
theorem q2130 : (Jvm.Cond.fieldLink "WordTongue$Node" (30 : Nat) "WordTongue$Node" "first" "LWordTongue$Node;") ∈ lw_all := lw_g (lw_at lw_m8 196 rfl) rfl
theorem q2135 : (Jvm.Cond.fieldLink "WordTongue$Node" (26 : Nat) "WordTongue$Node" "last" "LWordTongue$Node;") ∈ lw_all := lw_g (lw_at lw_m8 201 rfl) rfl
theorem q2136 : (Jvm.Cond.fieldLink "WordTongue$Node" (33 : Nat) "WordTongue$Node" "next" "LWordTongue$Node;") ∈ lw_all := lw_g (lw_at lw_m8 202 rfl) rfl
theorem q2139 : (Jvm.Cond.laysFinal "WordTongue$Node" "WordTongue$Node" "kind" "LWordTongue$Kind;") ∈ lw_all := lw_g (lw_at lw_m8 205 rfl) rfl
theorem q2140 : (Jvm.Cond.soleField "WordTongue$Node" "kind") ∈ lw_all := lw_g (lw_at lw_m8 206 rfl) rfl
theorem q2141 : (Jvm.Cond.laysFinal "WordTongue$Node" "WordTongue$Node" "place" "I") ∈ lw_all := lw_g (lw_at lw_m8 207 rfl) rfl
theorem q2142 : (Jvm.Cond.soleField "WordTongue$Node" "place") ∈ lw_all := lw_g (lw_at lw_m8 208 rfl) rfl
theorem q2143 : (Jvm.Cond.lays "WordTongue$Node" "WordTongue$Node" "from" "I") ∈ lw_all := lw_g (lw_at lw_m8 209 rfl) rfl
theorem q2144 : (Jvm.Cond.soleField "WordTongue$Node" "from") ∈ lw_all := lw_g (lw_at lw_m8 210 rfl) rfl
theorem q2145 : (Jvm.Cond.lays "WordTongue$Node" "WordTongue$Node" "apart" "Z") ∈ lw_all := lw_g (lw_at lw_m8 211 rfl) rfl
theorem q2146 : (Jvm.Cond.soleField "WordTongue$Node" "apart") ∈ lw_all := lw_g (lw_at lw_m8 212 rfl) rfl
theorem q2147 : (Jvm.Cond.lays "WordTongue$Node" "WordTongue$Node" "text" "Ljava/lang/String;") ∈ lw_all := lw_g (lw_at lw_m8 213 rfl) rfl
theorem q2148 : (Jvm.Cond.soleField "WordTongue$Node" "text") ∈ lw_all := lw_g (lw_at lw_m8 214 rfl) rfl
theorem q2149 : (Jvm.Cond.lays "WordTongue$Node" "WordTongue$Node" "value" "I") ∈ lw_all := lw_g (lw_at lw_m8 215 rfl) rfl
theorem q2150 : (Jvm.Cond.soleField "WordTongue$Node" "value") ∈ lw_all := lw_g (lw_at lw_m8 216 rfl) rfl
theorem q2151 : (Jvm.Cond.lays "WordTongue$Node" "WordTongue$Node" "first" "LWordTongue$Node;") ∈ lw_all := lw_g (lw_at lw_m8 217 rfl) rfl
theorem q2152 : (Jvm.Cond.soleField "WordTongue$Node" "first") ∈ lw_all := lw_g (lw_at lw_m8 218 rfl) rfl
theorem q2153 : (Jvm.Cond.lays "WordTongue$Node" "WordTongue$Node" "last" "LWordTongue$Node;") ∈ lw_all := lw_g (lw_at lw_m8 219 rfl) rfl
theorem q2154 : (Jvm.Cond.soleField "WordTongue$Node" "last") ∈ lw_all := lw_g (lw_at lw_m8 220 rfl) rfl
theorem q2155 : (Jvm.Cond.lays "WordTongue$Node" "WordTongue$Node" "next" "LWordTongue$Node;") ∈ lw_all := lw_g (lw_at lw_m8 221 rfl) rfl
theorem q2156 : (Jvm.Cond.soleField "WordTongue$Node" "next") ∈ lw_all := lw_g (lw_at lw_m8 222 rfl) rfl
theorem q2157 : (Jvm.Cond.superclass "WordTongue$Node" "java/lang/Object") ∈ lw_all := lw_g (lw_at lw_m8 223 rfl) rfl
theorem q2259 : (Jvm.Cond.instanceMethod ({ cls := "WordTongue$Node", name := "with", desc := "(LWordTongue$Node;)LWordTongue$Node;" } : Jvm.MethodName)) ∈ lw_all := lw_g (lw_at lw_m9 85 rfl) rfl
theorem q2260 : (Jvm.Cond.selects "WordTongue$Node" ({ cls := "WordTongue$Node", name := "with", desc := "(LWordTongue$Node;)LWordTongue$Node;" } : Jvm.MethodName) ({ cls := "WordTongue$Node", name := "with", desc := "(LWordTongue$Node;)LWordTongue$Node;" } : Jvm.MethodName)) ∈ lw_all := lw_g (lw_at lw_m9 86 rfl) rfl
theorem q2261 : (Jvm.Cond.sameMethod "WordTongue$Node" "WordTongue$Node" "with" "(LWordTongue$Node;)LWordTongue$Node;") ∈ lw_all := lw_g (lw_at lw_m9 87 rfl) rfl
theorem q2263 : (Jvm.Cond.code ({ cls := "WordTongue$Node", name := "with", desc := "(LWordTongue$Node;)LWordTongue$Node;" } : Jvm.MethodName) prog_11_method_2_code (2 : Nat) (Option.some (Jvm.ClassFile.FieldType.object "WordTongue$Node"))) ∈ lw_all := lw_g (lw_at lw_m9 89 rfl) rfl
theorem q2421 : (Jvm.Cond.instanceMethod ({ cls := "WordTongue$Node", name := "parts", desc := "()I" } : Jvm.MethodName)) ∈ lw_all := lw_g (lw_at lw_m10 7 rfl) rfl
theorem q2422 : (Jvm.Cond.selects "WordTongue$Node" ({ cls := "WordTongue$Node", name := "parts", desc := "()I" } : Jvm.MethodName) ({ cls := "WordTongue$Node", name := "parts", desc := "()I" } : Jvm.MethodName)) ∈ lw_all := lw_g (lw_at lw_m10 8 rfl) rfl
theorem q2423 : (Jvm.Cond.sameMethod "WordTongue$Node" "WordTongue$Node" "parts" "()I") ∈ lw_all := lw_g (lw_at lw_m10 9 rfl) rfl
theorem q2425 : (Jvm.Cond.code ({ cls := "WordTongue$Node", name := "parts", desc := "()I" } : Jvm.MethodName) prog_11_method_4_code (3 : Nat) (Option.some Jvm.ClassFile.FieldType.int)) ∈ lw_all := lw_g (lw_at lw_m10 11 rfl) rfl
theorem q2489 : (Jvm.Cond.declares ({ cls := "WordTongue$Node", name := "with", desc := "(LWordTongue$Node;)LWordTongue$Node;" } : Jvm.MethodName)) ∈ lw_tbl := lw_at lw_m10 75 rfl
theorem q2677 : (Jvm.Cond.declares ({ cls := "WordTongue$Node", name := "part", desc := "(I)LWordTongue$Node;" } : Jvm.MethodName)) ∈ lw_tbl := lw_at lw_m11 23 rfl
theorem q2679 : (Jvm.Cond.instanceMethod ({ cls := "WordTongue$Node", name := "part", desc := "(I)LWordTongue$Node;" } : Jvm.MethodName)) ∈ lw_all := lw_g (lw_at lw_m11 25 rfl) rfl
theorem q2680 : (Jvm.Cond.code ({ cls := "WordTongue$Node", name := "part", desc := "(I)LWordTongue$Node;" } : Jvm.MethodName) prog_11_method_3_code (4 : Nat) (Option.some (Jvm.ClassFile.FieldType.object "WordTongue$Node"))) ∈ lw_all := lw_g (lw_at lw_m11 26 rfl) rfl
theorem q2889 : (Jvm.Cond.declares ({ cls := "WordTongue$Node", name := "parts", desc := "()I" } : Jvm.MethodName)) ∈ lw_tbl := lw_at lw_m11 235 rfl
theorem q4320 : (Jvm.Cond.sameMethod "WordTongue$Node" "WordTongue$Node" "part" "(I)LWordTongue$Node;") ∈ lw_all := lw_g (lw_at lw_m17 226 rfl) rfl
theorem q4322 : (Jvm.Cond.selects "WordTongue$Node" ({ cls := "WordTongue$Node", name := "part", desc := "(I)LWordTongue$Node;" } : Jvm.MethodName) ({ cls := "WordTongue$Node", name := "part", desc := "(I)LWordTongue$Node;" } : Jvm.MethodName)) ∈ lw_all := lw_g (lw_at lw_m17 228 rfl) rfl
theorem q4351 : (Jvm.Cond.castable "WordTongue$Node" "java/lang/Object") ∈ lw_tbl := lw_at lw_m18 17 rfl
theorem in_X14 : ∀ w ∈ wsX140, w ∈ lw_all := lw_in wsX140 [2139, 2141, 2143, 2145, 2147, 2149, 2151, 2153, 2155] (by decide +kernel) (by decide +kernel)
/-! WordTongue$Listed -/
set_option maxRecDepth 100000
def RX15 : String := "WordTongue$Listed"
def TX15 : u_T := fun k => match k with
  | 0 => ("WordTongue$Node", "kind", "LWordTongue$Kind;", true)
  | 1 => ("WordTongue$Node", "place", "I", true)
  | 2 => ("WordTongue$Node", "from", "I", false)
  | 3 => ("WordTongue$Node", "apart", "Z", false)
  | 4 => ("WordTongue$Node", "text", "Ljava/lang/String;", false)
  | 5 => ("WordTongue$Node", "value", "I", false)
  | 6 => ("WordTongue$Node", "first", "LWordTongue$Node;", false)
  | 7 => ("WordTongue$Node", "last", "LWordTongue$Node;", false)
  | 8 => ("WordTongue$Node", "next", "LWordTongue$Node;", false)
  | 9 => ("WordTongue$Listed", "names", "Ljava/util/List;", true)
  | 10 => ("WordTongue$Listed", "outside", "Z", false)
  | 11 => ("WordTongue$Listed", "global", "Z", false)
  | 12 => ("WordTongue$Listed", "gives", "Z", false)
  | _ => ("WordTongue$Listed", "number", "I", false)
def tyX15 : Nat → FieldType := fun k => match k with
  | 0 => .object "WordTongue$Kind"
  | 1 => .int
  | 2 => .int
  | 3 => .boolean
  | 4 => .object "java/lang/String"
  | 5 => .int
  | 6 => .object "WordTongue$Node"
  | 7 => .object "WordTongue$Node"
  | 8 => .object "WordTongue$Node"
  | 9 => .object "java/util/List"
  | 10 => .boolean
  | 11 => .boolean
  | 12 => .boolean
  | _ => .int
abbrev wsX150 : List Cond := u_ws RX15 TX15 14
set_option maxRecDepth 100000 in
theorem nmX15 : ∀ a, a < 14 → ∀ b, b < 14 → a ≠ b → (TX15 a).2.1 ≠ (TX15 b).2.1 := by decide +kernel
set_option maxRecDepth 100000 in
theorem tyX15_ok : ∀ k, k < 14 → parseFieldDescriptor (TX15 k).2.2.1 = some (tyX15 k) := by decide +kernel
abbrev cX15_init : ByteArray := prog_7_method_1_code
def yX15_init : MethodName := ⟨RX15, "<init>", "(LWordTongue$Kind;I)V"⟩
theorem q302 : (Jvm.Cond.initialized "WordTongue$Listed") ∈ lw_all := lw_g (lw_at lw_m1 48 rfl) rfl
theorem q686 : (Jvm.Cond.selects "WordTongue$Listed" ({ cls := "java/lang/Object", name := "hashCode", desc := "()I" } : Jvm.MethodName) ({ cls := "java/lang/Object", name := "hashCode", desc := "()I" } : Jvm.MethodName)) ∈ lw_all := lw_g (lw_at lw_m2 192 rfl) rfl
theorem q831 : (Jvm.Cond.selects "WordTongue$Listed" ({ cls := "java/lang/Object", name := "getClass", desc := "()Ljava/lang/Class;" } : Jvm.MethodName) ({ cls := "java/lang/Object", name := "getClass", desc := "()Ljava/lang/Class;" } : Jvm.MethodName)) ∈ lw_all := lw_g (lw_at lw_m3 97 rfl) rfl
theorem q1117 : (Jvm.Cond.selects "WordTongue$Listed" ({ cls := "java/lang/Object", name := "equals", desc := "(Ljava/lang/Object;)Z" } : Jvm.MethodName) ({ cls := "java/lang/Object", name := "equals", desc := "(Ljava/lang/Object;)Z" } : Jvm.MethodName)) ∈ lw_all := lw_g (lw_at lw_m4 143 rfl) rfl
theorem q2113 : (Jvm.Cond.sameField "WordTongue$Listed" "WordTongue$Node" "place" "I") ∈ lw_all := lw_g (lw_at lw_m8 179 rfl) rfl
theorem q2118 : (Jvm.Cond.sameField "WordTongue$Listed" "WordTongue$Node" "from" "I") ∈ lw_all := lw_g (lw_at lw_m8 184 rfl) rfl
theorem q2124 : (Jvm.Cond.sameField "WordTongue$Listed" "WordTongue$Node" "text" "Ljava/lang/String;") ∈ lw_all := lw_g (lw_at lw_m8 190 rfl) rfl
theorem q2128 : (Jvm.Cond.sameField "WordTongue$Listed" "WordTongue$Node" "value" "I") ∈ lw_all := lw_g (lw_at lw_m8 194 rfl) rfl
theorem q2134 : (Jvm.Cond.sameField "WordTongue$Listed" "WordTongue$Node" "first" "LWordTongue$Node;") ∈ lw_all := lw_g (lw_at lw_m8 200 rfl) rfl
theorem q2262 : (Jvm.Cond.selects "WordTongue$Listed" ({ cls := "WordTongue$Node", name := "with", desc := "(LWordTongue$Node;)LWordTongue$Node;" } : Jvm.MethodName) ({ cls := "WordTongue$Node", name := "with", desc := "(LWordTongue$Node;)LWordTongue$Node;" } : Jvm.MethodName)) ∈ lw_all := lw_g (lw_at lw_m9 88 rfl) rfl
theorem q2424 : (Jvm.Cond.selects "WordTongue$Listed" ({ cls := "WordTongue$Node", name := "parts", desc := "()I" } : Jvm.MethodName) ({ cls := "WordTongue$Node", name := "parts", desc := "()I" } : Jvm.MethodName)) ∈ lw_all := lw_g (lw_at lw_m10 10 rfl) rfl
theorem q2448 : (Jvm.Cond.instantiable "WordTongue$Listed" (14 : Nat)) ∈ lw_all := lw_g (lw_at lw_m10 34 rfl) rfl
theorem q2452 : (Jvm.Cond.instanceMethod ({ cls := "WordTongue$Listed", name := "<init>", desc := "(LWordTongue$Kind;I)V" } : Jvm.MethodName)) ∈ lw_all := lw_g (lw_at lw_m10 38 rfl) rfl
theorem q2453 : (Jvm.Cond.code ({ cls := "WordTongue$Listed", name := "<init>", desc := "(LWordTongue$Kind;I)V" } : Jvm.MethodName) prog_7_method_1_code (3 : Nat) (Option.none : Option Jvm.ClassFile.FieldType)) ∈ lw_all := lw_g (lw_at lw_m10 39 rfl) rfl
theorem q2454 : (Jvm.Cond.methodLink "WordTongue$Listed" (1 : Nat) ({ cls := "WordTongue$Node", name := "<init>", desc := "(LWordTongue$Kind;I)V" } : Jvm.MethodName)) ∈ lw_all := lw_g (lw_at lw_m10 40 rfl) rfl
theorem q2455 : (Jvm.Cond.classLink "WordTongue$Listed" (7 : Nat) "java/util/ArrayList") ∈ lw_all := lw_g (lw_at lw_m10 41 rfl) rfl
theorem q2456 : (Jvm.Cond.methodLink "WordTongue$Listed" (9 : Nat) ({ cls := "java/util/ArrayList", name := "<init>", desc := "()V" } : Jvm.MethodName)) ∈ lw_all := lw_g (lw_at lw_m10 42 rfl) rfl
theorem q2457 : (Jvm.Cond.fieldLink "WordTongue$Listed" (12 : Nat) "WordTongue$Listed" "names" "Ljava/util/List;") ∈ lw_all := lw_g (lw_at lw_m10 43 rfl) rfl
theorem q2467 : (Jvm.Cond.laysFinal "WordTongue$Listed" "WordTongue$Listed" "names" "Ljava/util/List;") ∈ lw_all := lw_g (lw_at lw_m10 53 rfl) rfl
theorem q2468 : (Jvm.Cond.soleField "WordTongue$Listed" "names") ∈ lw_all := lw_g (lw_at lw_m10 54 rfl) rfl
theorem q2469 : (Jvm.Cond.lays "WordTongue$Listed" "WordTongue$Listed" "outside" "Z") ∈ lw_all := lw_g (lw_at lw_m10 55 rfl) rfl
theorem q2470 : (Jvm.Cond.soleField "WordTongue$Listed" "outside") ∈ lw_all := lw_g (lw_at lw_m10 56 rfl) rfl
theorem q2471 : (Jvm.Cond.lays "WordTongue$Listed" "WordTongue$Listed" "global" "Z") ∈ lw_all := lw_g (lw_at lw_m10 57 rfl) rfl
theorem q2472 : (Jvm.Cond.soleField "WordTongue$Listed" "global") ∈ lw_all := lw_g (lw_at lw_m10 58 rfl) rfl
theorem q2473 : (Jvm.Cond.lays "WordTongue$Listed" "WordTongue$Listed" "gives" "Z") ∈ lw_all := lw_g (lw_at lw_m10 59 rfl) rfl
theorem q2474 : (Jvm.Cond.soleField "WordTongue$Listed" "gives") ∈ lw_all := lw_g (lw_at lw_m10 60 rfl) rfl
theorem q2475 : (Jvm.Cond.lays "WordTongue$Listed" "WordTongue$Listed" "number" "I") ∈ lw_all := lw_g (lw_at lw_m10 61 rfl) rfl
theorem q2476 : (Jvm.Cond.soleField "WordTongue$Listed" "number") ∈ lw_all := lw_g (lw_at lw_m10 62 rfl) rfl
theorem q2477 : (Jvm.Cond.laysFinal "WordTongue$Listed" "WordTongue$Node" "kind" "LWordTongue$Kind;") ∈ lw_all := lw_g (lw_at lw_m10 63 rfl) rfl
theorem q2478 : (Jvm.Cond.laysFinal "WordTongue$Listed" "WordTongue$Node" "place" "I") ∈ lw_all := lw_g (lw_at lw_m10 64 rfl) rfl
theorem q2479 : (Jvm.Cond.lays "WordTongue$Listed" "WordTongue$Node" "from" "I") ∈ lw_all := lw_g (lw_at lw_m10 65 rfl) rfl
theorem q2480 : (Jvm.Cond.lays "WordTongue$Listed" "WordTongue$Node" "apart" "Z") ∈ lw_all := lw_g (lw_at lw_m10 66 rfl) rfl
theorem q2481 : (Jvm.Cond.lays "WordTongue$Listed" "WordTongue$Node" "text" "Ljava/lang/String;") ∈ lw_all := lw_g (lw_at lw_m10 67 rfl) rfl
theorem q2482 : (Jvm.Cond.lays "WordTongue$Listed" "WordTongue$Node" "value" "I") ∈ lw_all := lw_g (lw_at lw_m10 68 rfl) rfl
theorem q2483 : (Jvm.Cond.lays "WordTongue$Listed" "WordTongue$Node" "first" "LWordTongue$Node;") ∈ lw_all := lw_g (lw_at lw_m10 69 rfl) rfl
theorem q2484 : (Jvm.Cond.lays "WordTongue$Listed" "WordTongue$Node" "last" "LWordTongue$Node;") ∈ lw_all := lw_g (lw_at lw_m10 70 rfl) rfl
theorem q2485 : (Jvm.Cond.lays "WordTongue$Listed" "WordTongue$Node" "next" "LWordTongue$Node;") ∈ lw_all := lw_g (lw_at lw_m10 71 rfl) rfl
theorem q2486 : (Jvm.Cond.superclass "WordTongue$Listed" "WordTongue$Node") ∈ lw_all := lw_g (lw_at lw_m10 72 rfl) rfl
theorem q2488 : (Jvm.Cond.sameMethod "WordTongue$Listed" "WordTongue$Node" "with" "(LWordTongue$Node;)LWordTongue$Node;") ∈ lw_all := lw_g (lw_at lw_m10 74 rfl) rfl
theorem q2490 : (Jvm.Cond.selects "WordTongue$Listed" ({ cls := "WordTongue$Listed", name := "with", desc := "(LWordTongue$Node;)LWordTongue$Node;" } : Jvm.MethodName) ({ cls := "WordTongue$Node", name := "with", desc := "(LWordTongue$Node;)LWordTongue$Node;" } : Jvm.MethodName)) ∈ lw_all := lw_g (lw_at lw_m10 76 rfl) rfl
theorem q2676 : (Jvm.Cond.sameMethod "WordTongue$Listed" "WordTongue$Node" "part" "(I)LWordTongue$Node;") ∈ lw_all := lw_g (lw_at lw_m11 22 rfl) rfl
theorem q2678 : (Jvm.Cond.selects "WordTongue$Listed" ({ cls := "WordTongue$Listed", name := "part", desc := "(I)LWordTongue$Node;" } : Jvm.MethodName) ({ cls := "WordTongue$Node", name := "part", desc := "(I)LWordTongue$Node;" } : Jvm.MethodName)) ∈ lw_all := lw_g (lw_at lw_m11 24 rfl) rfl
theorem q2888 : (Jvm.Cond.sameMethod "WordTongue$Listed" "WordTongue$Node" "parts" "()I") ∈ lw_all := lw_g (lw_at lw_m11 234 rfl) rfl
theorem q2890 : (Jvm.Cond.selects "WordTongue$Listed" ({ cls := "WordTongue$Listed", name := "parts", desc := "()I" } : Jvm.MethodName) ({ cls := "WordTongue$Node", name := "parts", desc := "()I" } : Jvm.MethodName)) ∈ lw_all := lw_g (lw_at lw_m11 236 rfl) rfl
theorem q4321 : (Jvm.Cond.selects "WordTongue$Listed" ({ cls := "WordTongue$Node", name := "part", desc := "(I)LWordTongue$Node;" } : Jvm.MethodName) ({ cls := "WordTongue$Node", name := "part", desc := "(I)LWordTongue$Node;" } : Jvm.MethodName)) ∈ lw_all := lw_g (lw_at lw_m17 227 rfl) rfl
theorem q4326 : (Jvm.Cond.castable "WordTongue$Listed" "WordTongue$Node") ∈ lw_tbl := lw_at lw_m17 232 rfl
theorem q4352 : (Jvm.Cond.castable "WordTongue$Listed" "java/lang/Object") ∈ lw_tbl := lw_at lw_m18 18 rfl
theorem in_X15 : ∀ w ∈ wsX150, w ∈ lw_all := lw_in wsX150 [2477, 2478, 2479, 2480, 2481, 2482, 2483, 2484, 2485, 2467, 2469, 2471, 2473, 2475] (by decide +kernel) (by decide +kernel)
/-! WordTongue$Routine -/
set_option maxRecDepth 100000
def RX16 : String := "WordTongue$Routine"
def TX16 : u_T := fun k => match k with
  | 0 => ("WordTongue$Routine", "code", "[I", false)
  | 1 => ("WordTongue$Routine", "many", "I", false)
  | 2 => ("WordTongue$Routine", "labels", "I", false)
  | 3 => ("WordTongue$Routine", "parameters", "I", false)
  | 4 => ("WordTongue$Routine", "used", "I", false)
  | 5 => ("WordTongue$Routine", "most", "I", false)
  | _ => ("WordTongue$Routine", "gives", "Z", false)
def tyX16 : Nat → FieldType := fun k => match k with
  | 0 => .array .int
  | 1 => .int
  | 2 => .int
  | 3 => .int
  | 4 => .int
  | 5 => .int
  | _ => .boolean
abbrev wsX160 : List Cond := u_ws RX16 TX16 7
theorem nmX16 : ∀ a, a < 7 → ∀ b, b < 7 → a ≠ b → (TX16 a).2.1 ≠ (TX16 b).2.1 := by decide +kernel
theorem tyX16_ok : ∀ k, k < 7 → parseFieldDescriptor (TX16 k).2.2.1 = some (tyX16 k) := by decide +kernel
abbrev cX16_init : ByteArray := prog_13_method_1_code
def yX16_init : MethodName := ⟨RX16, "<init>", "()V"⟩
abbrev cX16_use : ByteArray := prog_13_method_3_code
def yX16_use : MethodName := ⟨RX16, "use", "(I)V"⟩
abbrev cX16_emit : ByteArray := prog_13_method_2_code
def yX16_emit : MethodName := ⟨RX16, "emit", "(II)I"⟩
abbrev cX16_land : ByteArray := prog_13_method_4_code
def yX16_land : MethodName := ⟨RX16, "land", "(I)V"⟩
abbrev cX16_mark : ByteArray := prog_13_method_5_code
def yX16_mark : MethodName := ⟨RX16, "mark", "()I"⟩
theorem q303 : (Jvm.Cond.initialized "WordTongue$Routine") ∈ lw_all := lw_g (lw_at lw_m1 49 rfl) rfl
theorem q692 : (Jvm.Cond.selects "WordTongue$Routine" ({ cls := "java/lang/Object", name := "hashCode", desc := "()I" } : Jvm.MethodName) ({ cls := "java/lang/Object", name := "hashCode", desc := "()I" } : Jvm.MethodName)) ∈ lw_all := lw_g (lw_at lw_m2 198 rfl) rfl
theorem q837 : (Jvm.Cond.selects "WordTongue$Routine" ({ cls := "java/lang/Object", name := "getClass", desc := "()Ljava/lang/Class;" } : Jvm.MethodName) ({ cls := "java/lang/Object", name := "getClass", desc := "()Ljava/lang/Class;" } : Jvm.MethodName)) ∈ lw_all := lw_g (lw_at lw_m3 103 rfl) rfl
theorem q1123 : (Jvm.Cond.selects "WordTongue$Routine" ({ cls := "java/lang/Object", name := "equals", desc := "(Ljava/lang/Object;)Z" } : Jvm.MethodName) ({ cls := "java/lang/Object", name := "equals", desc := "(Ljava/lang/Object;)Z" } : Jvm.MethodName)) ∈ lw_all := lw_g (lw_at lw_m4 149 rfl) rfl
theorem q2573 : (Jvm.Cond.instantiable "WordTongue$Routine" (7 : Nat)) ∈ lw_all := lw_g (lw_at lw_m10 159 rfl) rfl
theorem q2575 : (Jvm.Cond.instanceMethod ({ cls := "WordTongue$Routine", name := "<init>", desc := "()V" } : Jvm.MethodName)) ∈ lw_all := lw_g (lw_at lw_m10 161 rfl) rfl
theorem q2576 : (Jvm.Cond.code ({ cls := "WordTongue$Routine", name := "<init>", desc := "()V" } : Jvm.MethodName) prog_13_method_1_code (1 : Nat) (Option.none : Option Jvm.ClassFile.FieldType)) ∈ lw_all := lw_g (lw_at lw_m10 162 rfl) rfl
theorem q2577 : (Jvm.Cond.methodLink "WordTongue$Routine" (3 : Nat) ({ cls := "java/lang/Object", name := "<init>", desc := "()V" } : Jvm.MethodName)) ∈ lw_all := lw_g (lw_at lw_m10 163 rfl) rfl
theorem q2578 : (Jvm.Cond.fieldLink "WordTongue$Routine" (9 : Nat) "WordTongue$Routine" "code" "[I") ∈ lw_all := lw_g (lw_at lw_m10 164 rfl) rfl
theorem q2581 : (Jvm.Cond.fieldLink "WordTongue$Routine" (22 : Nat) "WordTongue$Routine" "many" "I") ∈ lw_all := lw_g (lw_at lw_m10 167 rfl) rfl
theorem q2585 : (Jvm.Cond.fieldLink "WordTongue$Routine" (41 : Nat) "WordTongue$Routine" "labels" "I") ∈ lw_all := lw_g (lw_at lw_m10 171 rfl) rfl
theorem q2590 : (Jvm.Cond.fieldLink "WordTongue$Routine" (15 : Nat) "WordTongue$Routine" "used" "I") ∈ lw_all := lw_g (lw_at lw_m10 176 rfl) rfl
theorem q2592 : (Jvm.Cond.fieldLink "WordTongue$Routine" (19 : Nat) "WordTongue$Routine" "most" "I") ∈ lw_all := lw_g (lw_at lw_m10 178 rfl) rfl
theorem q2596 : (Jvm.Cond.lays "WordTongue$Routine" "WordTongue$Routine" "code" "[I") ∈ lw_all := lw_g (lw_at lw_m10 182 rfl) rfl
theorem q2597 : (Jvm.Cond.soleField "WordTongue$Routine" "code") ∈ lw_all := lw_g (lw_at lw_m10 183 rfl) rfl
theorem q2598 : (Jvm.Cond.lays "WordTongue$Routine" "WordTongue$Routine" "many" "I") ∈ lw_all := lw_g (lw_at lw_m10 184 rfl) rfl
theorem q2599 : (Jvm.Cond.soleField "WordTongue$Routine" "many") ∈ lw_all := lw_g (lw_at lw_m10 185 rfl) rfl
theorem q2600 : (Jvm.Cond.lays "WordTongue$Routine" "WordTongue$Routine" "labels" "I") ∈ lw_all := lw_g (lw_at lw_m10 186 rfl) rfl
theorem q2601 : (Jvm.Cond.soleField "WordTongue$Routine" "labels") ∈ lw_all := lw_g (lw_at lw_m10 187 rfl) rfl
theorem q2602 : (Jvm.Cond.lays "WordTongue$Routine" "WordTongue$Routine" "parameters" "I") ∈ lw_all := lw_g (lw_at lw_m10 188 rfl) rfl
theorem q2603 : (Jvm.Cond.soleField "WordTongue$Routine" "parameters") ∈ lw_all := lw_g (lw_at lw_m10 189 rfl) rfl
theorem q2604 : (Jvm.Cond.lays "WordTongue$Routine" "WordTongue$Routine" "used" "I") ∈ lw_all := lw_g (lw_at lw_m10 190 rfl) rfl
theorem q2605 : (Jvm.Cond.soleField "WordTongue$Routine" "used") ∈ lw_all := lw_g (lw_at lw_m10 191 rfl) rfl
theorem q2606 : (Jvm.Cond.lays "WordTongue$Routine" "WordTongue$Routine" "most" "I") ∈ lw_all := lw_g (lw_at lw_m10 192 rfl) rfl
theorem q2607 : (Jvm.Cond.soleField "WordTongue$Routine" "most") ∈ lw_all := lw_g (lw_at lw_m10 193 rfl) rfl
theorem q2608 : (Jvm.Cond.lays "WordTongue$Routine" "WordTongue$Routine" "gives" "Z") ∈ lw_all := lw_g (lw_at lw_m10 194 rfl) rfl
theorem q2609 : (Jvm.Cond.soleField "WordTongue$Routine" "gives") ∈ lw_all := lw_g (lw_at lw_m10 195 rfl) rfl
theorem q2610 : (Jvm.Cond.superclass "WordTongue$Routine" "java/lang/Object") ∈ lw_all := lw_g (lw_at lw_m10 196 rfl) rfl
theorem q2671 : (Jvm.Cond.instanceMethod ({ cls := "WordTongue$Routine", name := "use", desc := "(I)V" } : Jvm.MethodName)) ∈ lw_all := lw_g (lw_at lw_m11 17 rfl) rfl
theorem q2672 : (Jvm.Cond.selects "WordTongue$Routine" ({ cls := "WordTongue$Routine", name := "use", desc := "(I)V" } : Jvm.MethodName) ({ cls := "WordTongue$Routine", name := "use", desc := "(I)V" } : Jvm.MethodName)) ∈ lw_all := lw_g (lw_at lw_m11 18 rfl) rfl
theorem q2673 : (Jvm.Cond.code ({ cls := "WordTongue$Routine", name := "use", desc := "(I)V" } : Jvm.MethodName) prog_13_method_3_code (2 : Nat) (Option.none : Option Jvm.ClassFile.FieldType)) ∈ lw_all := lw_g (lw_at lw_m11 19 rfl) rfl
theorem q2674 : (Jvm.Cond.methodLink "WordTongue$Routine" (31 : Nat) ({ cls := "java/lang/Math", name := "max", desc := "(II)I" } : Jvm.MethodName)) ∈ lw_all := lw_g (lw_at lw_m11 20 rfl) rfl
theorem q2686 : (Jvm.Cond.instanceMethod ({ cls := "WordTongue$Routine", name := "emit", desc := "(II)I" } : Jvm.MethodName)) ∈ lw_all := lw_g (lw_at lw_m11 32 rfl) rfl
theorem q2687 : (Jvm.Cond.selects "WordTongue$Routine" ({ cls := "WordTongue$Routine", name := "emit", desc := "(II)I" } : Jvm.MethodName) ({ cls := "WordTongue$Routine", name := "emit", desc := "(II)I" } : Jvm.MethodName)) ∈ lw_all := lw_g (lw_at lw_m11 33 rfl) rfl
theorem q2688 : (Jvm.Cond.code ({ cls := "WordTongue$Routine", name := "emit", desc := "(II)I" } : Jvm.MethodName) prog_13_method_2_code (4 : Nat) (Option.some Jvm.ClassFile.FieldType.int)) ∈ lw_all := lw_g (lw_at lw_m11 34 rfl) rfl
theorem q2689 : (Jvm.Cond.methodLink "WordTongue$Routine" (25 : Nat) ({ cls := "java/lang/System", name := "arraycopy", desc := "(Ljava/lang/Object;ILjava/lang/Object;II)V" } : Jvm.MethodName)) ∈ lw_all := lw_g (lw_at lw_m11 35 rfl) rfl
theorem q2756 : (Jvm.Cond.instanceMethod ({ cls := "WordTongue$Routine", name := "land", desc := "(I)V" } : Jvm.MethodName)) ∈ lw_all := lw_g (lw_at lw_m11 102 rfl) rfl
theorem q2757 : (Jvm.Cond.selects "WordTongue$Routine" ({ cls := "WordTongue$Routine", name := "land", desc := "(I)V" } : Jvm.MethodName) ({ cls := "WordTongue$Routine", name := "land", desc := "(I)V" } : Jvm.MethodName)) ∈ lw_all := lw_g (lw_at lw_m11 103 rfl) rfl
theorem q2758 : (Jvm.Cond.code ({ cls := "WordTongue$Routine", name := "land", desc := "(I)V" } : Jvm.MethodName) prog_13_method_4_code (3 : Nat) (Option.none : Option Jvm.ClassFile.FieldType)) ∈ lw_all := lw_g (lw_at lw_m11 104 rfl) rfl
theorem q2759 : (Jvm.Cond.methodLink "WordTongue$Routine" (37 : Nat) ({ cls := "WordTongue$Routine", name := "mark", desc := "()I" } : Jvm.MethodName)) ∈ lw_all := lw_g (lw_at lw_m11 105 rfl) rfl
theorem q2760 : (Jvm.Cond.instanceMethod ({ cls := "WordTongue$Routine", name := "mark", desc := "()I" } : Jvm.MethodName)) ∈ lw_all := lw_g (lw_at lw_m11 106 rfl) rfl
theorem q2761 : (Jvm.Cond.selects "WordTongue$Routine" ({ cls := "WordTongue$Routine", name := "mark", desc := "()I" } : Jvm.MethodName) ({ cls := "WordTongue$Routine", name := "mark", desc := "()I" } : Jvm.MethodName)) ∈ lw_all := lw_g (lw_at lw_m11 107 rfl) rfl
theorem q2762 : (Jvm.Cond.code ({ cls := "WordTongue$Routine", name := "mark", desc := "()I" } : Jvm.MethodName) prog_13_method_5_code (1 : Nat) (Option.some Jvm.ClassFile.FieldType.int)) ∈ lw_all := lw_g (lw_at lw_m11 108 rfl) rfl
theorem q2763 : (Jvm.Cond.methodLink "WordTongue$Routine" (44 : Nat) ({ cls := "WordTongue$Routine", name := "emit", desc := "(II)I" } : Jvm.MethodName)) ∈ lw_all := lw_g (lw_at lw_m11 109 rfl) rfl
theorem q4353 : (Jvm.Cond.castable "WordTongue$Routine" "java/lang/Object") ∈ lw_tbl := lw_at lw_m18 19 rfl
theorem in_X16 : ∀ w ∈ wsX160, w ∈ lw_all := lw_in wsX160 [2596, 2598, 2600, 2602, 2604, 2606, 2608] (by decide +kernel) (by decide +kernel)
/-! WordTongue$Ended -/
set_option maxRecDepth 100000
def RX17 : String := "WordTongue$Ended"
def TX17 : u_T := fun k => match k with
  | 0 => ("java/lang/Throwable", "cause", "Ljava/lang/Throwable;", false)
  | 1 => ("java/lang/Throwable", "stackTrace", "[Ljava/lang/StackTraceElement;", false)
  | 2 => ("java/lang/Throwable", "suppressedExceptions", "Ljava/util/List;", false)
  | 3 => ("java/lang/Throwable", "detailMessage", "Ljava/lang/String;", false)
  | 4 => ("java/lang/Throwable", "backtrace", "Ljava/lang/Object;", false)
  | 5 => ("java/lang/Throwable", "depth", "I", false)
  | _ => ("WordTongue$Ended", "how", "I", true)
def tyX17 : Nat → FieldType := fun k => match k with
  | 0 => .object "java/lang/Throwable"
  | 1 => .array (.object "java/lang/StackTraceElement")
  | 2 => .object "java/util/List"
  | 3 => .object "java/lang/String"
  | 4 => .object "java/lang/Object"
  | 5 => .int
  | _ => .int
abbrev wsX170 : List Cond := u_ws RX17 TX17 7
theorem nmX17 : ∀ a, a < 7 → ∀ b, b < 7 → a ≠ b → (TX17 a).2.1 ≠ (TX17 b).2.1 := by decide +kernel
theorem tyX17_ok : ∀ k, k < 7 → parseFieldDescriptor (TX17 k).2.2.1 = some (tyX17 k) := by decide +kernel
abbrev cX17_init : ByteArray := prog_3_method_1_code
def yX17_init : MethodName := ⟨RX17, "<init>", "(I)V"⟩
theorem q305 : (Jvm.Cond.initialized "WordTongue$Ended") ∈ lw_all := lw_g (lw_at lw_m1 51 rfl) rfl
theorem q677 : (Jvm.Cond.selects "WordTongue$Ended" ({ cls := "java/lang/Object", name := "hashCode", desc := "()I" } : Jvm.MethodName) ({ cls := "java/lang/Object", name := "hashCode", desc := "()I" } : Jvm.MethodName)) ∈ lw_all := lw_g (lw_at lw_m2 183 rfl) rfl
theorem q827 : (Jvm.Cond.selects "WordTongue$Ended" ({ cls := "java/lang/Object", name := "getClass", desc := "()Ljava/lang/Class;" } : Jvm.MethodName) ({ cls := "java/lang/Object", name := "getClass", desc := "()Ljava/lang/Class;" } : Jvm.MethodName)) ∈ lw_all := lw_g (lw_at lw_m3 93 rfl) rfl
theorem q1111 : (Jvm.Cond.selects "WordTongue$Ended" ({ cls := "java/lang/Object", name := "equals", desc := "(Ljava/lang/Object;)Z" } : Jvm.MethodName) ({ cls := "java/lang/Object", name := "equals", desc := "(Ljava/lang/Object;)Z" } : Jvm.MethodName)) ∈ lw_all := lw_g (lw_at lw_m4 137 rfl) rfl
theorem q1768 : (Jvm.Cond.selects "WordTongue$Ended" ({ cls := "java/lang/Throwable", name := "fillInStackTrace", desc := "()Ljava/lang/Throwable;" } : Jvm.MethodName) ({ cls := "java/lang/Throwable", name := "fillInStackTrace", desc := "()Ljava/lang/Throwable;" } : Jvm.MethodName)) ∈ lw_all := lw_g (lw_at lw_m7 74 rfl) rfl
theorem q3138 : (Jvm.Cond.instantiable "WordTongue$Ended" (7 : Nat)) ∈ lw_all := lw_g (lw_at lw_m13 4 rfl) rfl
theorem q3139 : (Jvm.Cond.castable "WordTongue$Ended" "WordTongue$Ended") ∈ lw_tbl := lw_at lw_m13 5 rfl
theorem q3140 : (Jvm.Cond.selects "WordTongue$Ended" ({ cls := "java/lang/Throwable", name := "fillInStackTrace", desc := "(I)Ljava/lang/Throwable;" } : Jvm.MethodName) ({ cls := "java/lang/Throwable", name := "fillInStackTrace", desc := "(I)Ljava/lang/Throwable;" } : Jvm.MethodName)) ∈ lw_all := lw_g (lw_at lw_m13 6 rfl) rfl
theorem q3141 : (Jvm.Cond.lays "WordTongue$Ended" "java/lang/Throwable" "cause" "Ljava/lang/Throwable;") ∈ lw_all := lw_g (lw_at lw_m13 7 rfl) rfl
theorem q3142 : (Jvm.Cond.lays "WordTongue$Ended" "java/lang/Throwable" "stackTrace" "[Ljava/lang/StackTraceElement;") ∈ lw_all := lw_g (lw_at lw_m13 8 rfl) rfl
theorem q3143 : (Jvm.Cond.lays "WordTongue$Ended" "java/lang/Throwable" "suppressedExceptions" "Ljava/util/List;") ∈ lw_all := lw_g (lw_at lw_m13 9 rfl) rfl
theorem q3144 : (Jvm.Cond.lays "WordTongue$Ended" "java/lang/Throwable" "detailMessage" "Ljava/lang/String;") ∈ lw_all := lw_g (lw_at lw_m13 10 rfl) rfl
theorem q3145 : (Jvm.Cond.lays "WordTongue$Ended" "java/lang/Throwable" "backtrace" "Ljava/lang/Object;") ∈ lw_all := lw_g (lw_at lw_m13 11 rfl) rfl
theorem q3147 : (Jvm.Cond.instanceMethod ({ cls := "WordTongue$Ended", name := "<init>", desc := "(I)V" } : Jvm.MethodName)) ∈ lw_all := lw_g (lw_at lw_m13 13 rfl) rfl
theorem q3148 : (Jvm.Cond.code ({ cls := "WordTongue$Ended", name := "<init>", desc := "(I)V" } : Jvm.MethodName) prog_3_method_1_code (2 : Nat) (Option.none : Option Jvm.ClassFile.FieldType)) ∈ lw_all := lw_g (lw_at lw_m13 14 rfl) rfl
theorem q3149 : (Jvm.Cond.methodLink "WordTongue$Ended" (1 : Nat) ({ cls := "java/lang/RuntimeException", name := "<init>", desc := "()V" } : Jvm.MethodName)) ∈ lw_all := lw_g (lw_at lw_m13 15 rfl) rfl
theorem q3150 : (Jvm.Cond.fieldLink "WordTongue$Ended" (7 : Nat) "WordTongue$Ended" "how" "I") ∈ lw_all := lw_g (lw_at lw_m13 16 rfl) rfl
theorem q3152 : (Jvm.Cond.laysFinal "WordTongue$Ended" "WordTongue$Ended" "how" "I") ∈ lw_all := lw_g (lw_at lw_m13 18 rfl) rfl
theorem q3153 : (Jvm.Cond.soleField "WordTongue$Ended" "how") ∈ lw_all := lw_g (lw_at lw_m13 19 rfl) rfl
theorem q3154 : (Jvm.Cond.lays "WordTongue$Ended" "java/lang/Throwable" "depth" "I") ∈ lw_all := lw_g (lw_at lw_m13 20 rfl) rfl
theorem q3155 : (Jvm.Cond.superclass "WordTongue$Ended" "java/lang/RuntimeException") ∈ lw_all := lw_g (lw_at lw_m13 21 rfl) rfl
theorem q4355 : (Jvm.Cond.castable "WordTongue$Ended" "java/lang/Object") ∈ lw_tbl := lw_at lw_m18 21 rfl
theorem in_X17 : ∀ w ∈ wsX170, w ∈ lw_all := lw_in wsX170 [3141, 3142, 3143, 3144, 3145, 3154, 3152] (by decide +kernel) (by decide +kernel)
/-! java/util/AbstractMap -/
set_option maxRecDepth 100000
def RJ0 : String := "java/util/AbstractMap"
abbrev cJ0_init : ByteArray := prog_48_method_1_code
def yJ0_init : MethodName := ⟨RJ0, "<init>", "()V"⟩
theorem q260 : (Jvm.Cond.initialized "java/util/AbstractMap") ∈ lw_all := lw_g (lw_at lw_m1 6 rfl) rfl
theorem q460 : (Jvm.Cond.instanceMethod ({ cls := "java/util/AbstractMap", name := "<init>", desc := "()V" } : Jvm.MethodName)) ∈ lw_all := lw_g (lw_at lw_m1 206 rfl) rfl
theorem q461 : (Jvm.Cond.code ({ cls := "java/util/AbstractMap", name := "<init>", desc := "()V" } : Jvm.MethodName) prog_48_method_1_code (1 : Nat) (Option.none : Option Jvm.ClassFile.FieldType)) ∈ lw_all := lw_g (lw_at lw_m1 207 rfl) rfl
theorem q462 : (Jvm.Cond.methodLink "java/util/AbstractMap" (1 : Nat) ({ cls := "java/lang/Object", name := "<init>", desc := "()V" } : Jvm.MethodName)) ∈ lw_all := lw_g (lw_at lw_m1 208 rfl) rfl
theorem q482 : (Jvm.Cond.soleField "java/util/AbstractMap" "keySet") ∈ lw_all := lw_g (lw_at lw_m1 228 rfl) rfl
theorem q484 : (Jvm.Cond.soleField "java/util/AbstractMap" "values") ∈ lw_all := lw_g (lw_at lw_m1 230 rfl) rfl
/-! java/util/HashMap -/
set_option maxRecDepth 100000
def RJ1 : String := "java/util/HashMap"
def TJ1 : u_T := fun k => match k with
  | 0 => ("java/util/AbstractMap", "keySet", "Ljava/util/Set;", false)
  | 1 => ("java/util/AbstractMap", "values", "Ljava/util/Collection;", false)
  | 2 => ("java/util/HashMap", "table", "[Ljava/util/HashMap$Node;", false)
  | 3 => ("java/util/HashMap", "entrySet", "Ljava/util/Set;", false)
  | 4 => ("java/util/HashMap", "size", "I", false)
  | 5 => ("java/util/HashMap", "modCount", "I", false)
  | 6 => ("java/util/HashMap", "threshold", "I", false)
  | _ => ("java/util/HashMap", "loadFactor", "F", true)
def tyJ1 : Nat → FieldType := fun k => match k with
  | 0 => .object "java/util/Set"
  | 1 => .object "java/util/Collection"
  | 2 => .array (.object "java/util/HashMap$Node")
  | 3 => .object "java/util/Set"
  | 4 => .int
  | 5 => .int
  | 6 => .int
  | _ => .float
abbrev wsJ10 : List Cond := u_ws RJ1 TJ1 8
theorem nmJ1 : ∀ a, a < 8 → ∀ b, b < 8 → a ≠ b → (TJ1 a).2.1 ≠ (TJ1 b).2.1 := by decide +kernel
theorem tyJ1_ok : ∀ k, k < 8 → parseFieldDescriptor (TJ1 k).2.2.1 = some (tyJ1 k) := by decide +kernel
abbrev cJ1_init : ByteArray := prog_53_method_7_code
def yJ1_init : MethodName := ⟨RJ1, "<init>", "()V"⟩
abbrev cJ1_put : ByteArray := prog_53_method_15_code
def yJ1_put : MethodName := ⟨RJ1, "put", "(Ljava/lang/Object;Ljava/lang/Object;)Ljava/lang/Object;"⟩
abbrev cJ1_hash : ByteArray := prog_53_method_1_code
def yJ1_hash : MethodName := ⟨RJ1, "hash", "(Ljava/lang/Object;)I"⟩
abbrev cJ1_putVal : ByteArray := prog_53_method_16_code
def yJ1_putVal : MethodName := ⟨RJ1, "putVal", "(ILjava/lang/Object;Ljava/lang/Object;ZZ)Ljava/lang/Object;"⟩
abbrev cJ1_resize : ByteArray := prog_53_method_17_code
def yJ1_resize : MethodName := ⟨RJ1, "resize", "()[Ljava/util/HashMap$Node;"⟩
abbrev cJ1_replacementNode : ByteArray := prog_53_method_47_code
def yJ1_replacementNode : MethodName := ⟨RJ1, "replacementNode", "(Ljava/util/HashMap$Node;Ljava/util/HashMap$Node;)Ljava/util/HashMap$Node;"⟩
abbrev cJ1_comparableClassFor : ByteArray := prog_53_method_2_code
def yJ1_comparableClassFor : MethodName := ⟨RJ1, "comparableClassFor", "(Ljava/lang/Object;)Ljava/lang/Class;"⟩
abbrev cJ1_compareComparables : ByteArray := prog_53_method_3_code
def yJ1_compareComparables : MethodName := ⟨RJ1, "compareComparables", "(Ljava/lang/Class;Ljava/lang/Object;Ljava/lang/Object;)I"⟩
abbrev cJ1_newNode : ByteArray := prog_53_method_46_code
def yJ1_newNode : MethodName := ⟨RJ1, "newNode", "(ILjava/lang/Object;Ljava/lang/Object;Ljava/util/HashMap$Node;)Ljava/util/HashMap$Node;"⟩
abbrev cJ1_newTreeNode : ByteArray := prog_53_method_48_code
def yJ1_newTreeNode : MethodName := ⟨RJ1, "newTreeNode", "(ILjava/lang/Object;Ljava/lang/Object;Ljava/util/HashMap$Node;)Ljava/util/HashMap$TreeNode;"⟩
abbrev cJ1_treeifyBin : ByteArray := prog_53_method_18_code
def yJ1_treeifyBin : MethodName := ⟨RJ1, "treeifyBin", "([Ljava/util/HashMap$Node;I)V"⟩
abbrev cJ1_replacementTreeNode : ByteArray := prog_53_method_49_code
def yJ1_replacementTreeNode : MethodName := ⟨RJ1, "replacementTreeNode", "(Ljava/util/HashMap$Node;Ljava/util/HashMap$Node;)Ljava/util/HashMap$TreeNode;"⟩
abbrev cJ1_afterNodeAccess : ByteArray := prog_53_method_51_code
def yJ1_afterNodeAccess : MethodName := ⟨RJ1, "afterNodeAccess", "(Ljava/util/HashMap$Node;)V"⟩
abbrev cJ1_afterNodeInsertion : ByteArray := prog_53_method_52_code
def yJ1_afterNodeInsertion : MethodName := ⟨RJ1, "afterNodeInsertion", "(Z)V"⟩
abbrev cJ1_containsKey : ByteArray := prog_53_method_14_code
def yJ1_containsKey : MethodName := ⟨RJ1, "containsKey", "(Ljava/lang/Object;)Z"⟩
abbrev cJ1_getNode : ByteArray := prog_53_method_13_code
def yJ1_getNode : MethodName := ⟨RJ1, "getNode", "(Ljava/lang/Object;)Ljava/util/HashMap$Node;"⟩
abbrev cJ1_get : ByteArray := prog_53_method_12_code
def yJ1_get : MethodName := ⟨RJ1, "get", "(Ljava/lang/Object;)Ljava/lang/Object;"⟩
theorem q261 : (Jvm.Cond.initialized "java/util/HashMap") ∈ lw_all := lw_g (lw_at lw_m1 7 rfl) rfl
theorem q455 : (Jvm.Cond.instantiable "java/util/HashMap" (8 : Nat)) ∈ lw_all := lw_g (lw_at lw_m1 201 rfl) rfl
theorem q457 : (Jvm.Cond.instanceMethod ({ cls := "java/util/HashMap", name := "<init>", desc := "()V" } : Jvm.MethodName)) ∈ lw_all := lw_g (lw_at lw_m1 203 rfl) rfl
theorem q458 : (Jvm.Cond.code ({ cls := "java/util/HashMap", name := "<init>", desc := "()V" } : Jvm.MethodName) prog_53_method_7_code (1 : Nat) (Option.none : Option Jvm.ClassFile.FieldType)) ∈ lw_all := lw_g (lw_at lw_m1 204 rfl) rfl
theorem q459 : (Jvm.Cond.methodLink "java/util/HashMap" (43 : Nat) ({ cls := "java/util/AbstractMap", name := "<init>", desc := "()V" } : Jvm.MethodName)) ∈ lw_all := lw_g (lw_at lw_m1 205 rfl) rfl
theorem q463 : (Jvm.Cond.constantFloat "java/util/HashMap" (92 : Nat) (1061158912 : UInt32)) ∈ lw_all := lw_g (lw_at lw_m1 209 rfl) rfl
theorem q464 : (Jvm.Cond.fieldLink "java/util/HashMap" (105 : Nat) "java/util/HashMap" "table" "[Ljava/util/HashMap$Node;") ∈ lw_all := lw_g (lw_at lw_m1 210 rfl) rfl
theorem q465 : (Jvm.Cond.fieldLink "java/util/HashMap" (156 : Nat) "java/util/HashMap" "size" "I") ∈ lw_all := lw_g (lw_at lw_m1 211 rfl) rfl
theorem q466 : (Jvm.Cond.fieldLink "java/util/HashMap" (202 : Nat) "java/util/HashMap" "modCount" "I") ∈ lw_all := lw_g (lw_at lw_m1 212 rfl) rfl
theorem q467 : (Jvm.Cond.fieldLink "java/util/HashMap" (88 : Nat) "java/util/HashMap" "threshold" "I") ∈ lw_all := lw_g (lw_at lw_m1 213 rfl) rfl
theorem q468 : (Jvm.Cond.fieldLink "java/util/HashMap" (81 : Nat) "java/util/HashMap" "loadFactor" "F") ∈ lw_all := lw_g (lw_at lw_m1 214 rfl) rfl
theorem q469 : (Jvm.Cond.lays "java/util/HashMap" "java/util/HashMap" "table" "[Ljava/util/HashMap$Node;") ∈ lw_all := lw_g (lw_at lw_m1 215 rfl) rfl
theorem q470 : (Jvm.Cond.soleField "java/util/HashMap" "table") ∈ lw_all := lw_g (lw_at lw_m1 216 rfl) rfl
theorem q471 : (Jvm.Cond.lays "java/util/HashMap" "java/util/HashMap" "entrySet" "Ljava/util/Set;") ∈ lw_all := lw_g (lw_at lw_m1 217 rfl) rfl
theorem q472 : (Jvm.Cond.soleField "java/util/HashMap" "entrySet") ∈ lw_all := lw_g (lw_at lw_m1 218 rfl) rfl
theorem q473 : (Jvm.Cond.lays "java/util/HashMap" "java/util/HashMap" "size" "I") ∈ lw_all := lw_g (lw_at lw_m1 219 rfl) rfl
theorem q474 : (Jvm.Cond.soleField "java/util/HashMap" "size") ∈ lw_all := lw_g (lw_at lw_m1 220 rfl) rfl
theorem q475 : (Jvm.Cond.lays "java/util/HashMap" "java/util/HashMap" "modCount" "I") ∈ lw_all := lw_g (lw_at lw_m1 221 rfl) rfl
theorem q476 : (Jvm.Cond.soleField "java/util/HashMap" "modCount") ∈ lw_all := lw_g (lw_at lw_m1 222 rfl) rfl
theorem q477 : (Jvm.Cond.lays "java/util/HashMap" "java/util/HashMap" "threshold" "I") ∈ lw_all := lw_g (lw_at lw_m1 223 rfl) rfl
theorem q478 : (Jvm.Cond.soleField "java/util/HashMap" "threshold") ∈ lw_all := lw_g (lw_at lw_m1 224 rfl) rfl
theorem q479 : (Jvm.Cond.laysFinal "java/util/HashMap" "java/util/HashMap" "loadFactor" "F") ∈ lw_all := lw_g (lw_at lw_m1 225 rfl) rfl
theorem q480 : (Jvm.Cond.soleField "java/util/HashMap" "loadFactor") ∈ lw_all := lw_g (lw_at lw_m1 226 rfl) rfl
theorem q481 : (Jvm.Cond.lays "java/util/HashMap" "java/util/AbstractMap" "keySet" "Ljava/util/Set;") ∈ lw_all := lw_g (lw_at lw_m1 227 rfl) rfl
theorem q483 : (Jvm.Cond.lays "java/util/HashMap" "java/util/AbstractMap" "values" "Ljava/util/Collection;") ∈ lw_all := lw_g (lw_at lw_m1 229 rfl) rfl
theorem q485 : (Jvm.Cond.superclass "java/util/HashMap" "java/util/AbstractMap") ∈ lw_all := lw_g (lw_at lw_m1 231 rfl) rfl
theorem q662 : (Jvm.Cond.castable "java/util/HashMap" "java/util/Map") ∈ lw_tbl := lw_at lw_m2 168 rfl
theorem q663 : (Jvm.Cond.selects "java/util/HashMap" ({ cls := "java/util/Map", name := "put", desc := "(Ljava/lang/Object;Ljava/lang/Object;)Ljava/lang/Object;" } : Jvm.MethodName) ({ cls := "java/util/HashMap", name := "put", desc := "(Ljava/lang/Object;Ljava/lang/Object;)Ljava/lang/Object;" } : Jvm.MethodName)) ∈ lw_all := lw_g (lw_at lw_m2 169 rfl) rfl
theorem q664 : (Jvm.Cond.unhidden "java/util/HashMap" "put" "(Ljava/lang/Object;Ljava/lang/Object;)Ljava/lang/Object;") ∈ lw_tbl := lw_at lw_m2 170 rfl
theorem q665 : (Jvm.Cond.instanceMethod ({ cls := "java/util/HashMap", name := "put", desc := "(Ljava/lang/Object;Ljava/lang/Object;)Ljava/lang/Object;" } : Jvm.MethodName)) ∈ lw_all := lw_g (lw_at lw_m2 171 rfl) rfl
theorem q666 : (Jvm.Cond.publicMethod ({ cls := "java/util/HashMap", name := "put", desc := "(Ljava/lang/Object;Ljava/lang/Object;)Ljava/lang/Object;" } : Jvm.MethodName)) ∈ lw_tbl := lw_at lw_m2 172 rfl
theorem q667 : (Jvm.Cond.code ({ cls := "java/util/HashMap", name := "put", desc := "(Ljava/lang/Object;Ljava/lang/Object;)Ljava/lang/Object;" } : Jvm.MethodName) prog_53_method_15_code (3 : Nat) (Option.some (Jvm.ClassFile.FieldType.object "java/lang/Object"))) ∈ lw_all := lw_g (lw_at lw_m2 173 rfl) rfl
theorem q668 : (Jvm.Cond.methodLink "java/util/HashMap" (149 : Nat) ({ cls := "java/util/HashMap", name := "hash", desc := "(Ljava/lang/Object;)I" } : Jvm.MethodName)) ∈ lw_all := lw_g (lw_at lw_m2 174 rfl) rfl
theorem q669 : (Jvm.Cond.static ({ cls := "java/util/HashMap", name := "hash", desc := "(Ljava/lang/Object;)I" } : Jvm.MethodName)) ∈ lw_all := lw_g (lw_at lw_m2 175 rfl) rfl
theorem q670 : (Jvm.Cond.code ({ cls := "java/util/HashMap", name := "hash", desc := "(Ljava/lang/Object;)I" } : Jvm.MethodName) prog_53_method_1_code (2 : Nat) (Option.some Jvm.ClassFile.FieldType.int)) ∈ lw_all := lw_g (lw_at lw_m2 176 rfl) rfl
theorem q672 : (Jvm.Cond.methodLink "java/util/HashMap" (1 : Nat) ({ cls := "java/lang/Object", name := "hashCode", desc := "()I" } : Jvm.MethodName)) ∈ lw_all := lw_g (lw_at lw_m2 178 rfl) rfl
theorem q757 : (Jvm.Cond.methodLink "java/util/HashMap" (152 : Nat) ({ cls := "java/util/HashMap", name := "putVal", desc := "(ILjava/lang/Object;Ljava/lang/Object;ZZ)Ljava/lang/Object;" } : Jvm.MethodName)) ∈ lw_all := lw_g (lw_at lw_m3 23 rfl) rfl
theorem q758 : (Jvm.Cond.instanceMethod ({ cls := "java/util/HashMap", name := "putVal", desc := "(ILjava/lang/Object;Ljava/lang/Object;ZZ)Ljava/lang/Object;" } : Jvm.MethodName)) ∈ lw_all := lw_g (lw_at lw_m3 24 rfl) rfl
theorem q759 : (Jvm.Cond.selects "java/util/HashMap" ({ cls := "java/util/HashMap", name := "putVal", desc := "(ILjava/lang/Object;Ljava/lang/Object;ZZ)Ljava/lang/Object;" } : Jvm.MethodName) ({ cls := "java/util/HashMap", name := "putVal", desc := "(ILjava/lang/Object;Ljava/lang/Object;ZZ)Ljava/lang/Object;" } : Jvm.MethodName)) ∈ lw_all := lw_g (lw_at lw_m3 25 rfl) rfl
theorem q760 : (Jvm.Cond.code ({ cls := "java/util/HashMap", name := "putVal", desc := "(ILjava/lang/Object;Ljava/lang/Object;ZZ)Ljava/lang/Object;" } : Jvm.MethodName) prog_53_method_16_code (13 : Nat) (Option.some (Jvm.ClassFile.FieldType.object "java/lang/Object"))) ∈ lw_all := lw_g (lw_at lw_m3 26 rfl) rfl
theorem q761 : (Jvm.Cond.methodLink "java/util/HashMap" (117 : Nat) ({ cls := "java/util/HashMap", name := "resize", desc := "()[Ljava/util/HashMap$Node;" } : Jvm.MethodName)) ∈ lw_all := lw_g (lw_at lw_m3 27 rfl) rfl
theorem q762 : (Jvm.Cond.instanceMethod ({ cls := "java/util/HashMap", name := "resize", desc := "()[Ljava/util/HashMap$Node;" } : Jvm.MethodName)) ∈ lw_all := lw_g (lw_at lw_m3 28 rfl) rfl
theorem q763 : (Jvm.Cond.selects "java/util/HashMap" ({ cls := "java/util/HashMap", name := "resize", desc := "()[Ljava/util/HashMap$Node;" } : Jvm.MethodName) ({ cls := "java/util/HashMap", name := "resize", desc := "()[Ljava/util/HashMap$Node;" } : Jvm.MethodName)) ∈ lw_all := lw_g (lw_at lw_m3 29 rfl) rfl
theorem q764 : (Jvm.Cond.code ({ cls := "java/util/HashMap", name := "resize", desc := "()[Ljava/util/HashMap$Node;" } : Jvm.MethodName) prog_53_method_17_code (14 : Nat) (Option.some (Jvm.ClassFile.FieldType.array (Jvm.ClassFile.FieldType.object "java/util/HashMap$Node")))) ∈ lw_all := lw_g (lw_at lw_m3 30 rfl) rfl
theorem q765 : (Jvm.Cond.constant "java/util/HashMap" (42 : Nat) (1073741824 : Int32)) ∈ lw_all := lw_g (lw_at lw_m3 31 rfl) rfl
theorem q766 : (Jvm.Cond.constant "java/util/HashMap" (209 : Nat) (2147483647 : Int32)) ∈ lw_all := lw_g (lw_at lw_m3 32 rfl) rfl
theorem q767 : (Jvm.Cond.constantFloat "java/util/HashMap" (210 : Nat) (1317011456 : UInt32)) ∈ lw_all := lw_g (lw_at lw_m3 33 rfl) rfl
theorem q768 : (Jvm.Cond.classLink "java/util/HashMap" (163 : Nat) "java/util/HashMap$Node") ∈ lw_all := lw_g (lw_at lw_m3 34 rfl) rfl
theorem q770 : (Jvm.Cond.classLink "java/util/HashMap" (180 : Nat) "java/util/HashMap$TreeNode") ∈ lw_all := lw_g (lw_at lw_m3 36 rfl) rfl
theorem q771 : (Jvm.Cond.methodLink "java/util/HashMap" (211 : Nat) ({ cls := "java/util/HashMap$TreeNode", name := "split", desc := "(Ljava/util/HashMap;[Ljava/util/HashMap$Node;II)V" } : Jvm.MethodName)) ∈ lw_all := lw_g (lw_at lw_m3 37 rfl) rfl
theorem q781 : (Jvm.Cond.instanceMethod ({ cls := "java/util/HashMap", name := "replacementNode", desc := "(Ljava/util/HashMap$Node;Ljava/util/HashMap$Node;)Ljava/util/HashMap$Node;" } : Jvm.MethodName)) ∈ lw_all := lw_g (lw_at lw_m3 47 rfl) rfl
theorem q782 : (Jvm.Cond.selects "java/util/HashMap" ({ cls := "java/util/HashMap", name := "replacementNode", desc := "(Ljava/util/HashMap$Node;Ljava/util/HashMap$Node;)Ljava/util/HashMap$Node;" } : Jvm.MethodName) ({ cls := "java/util/HashMap", name := "replacementNode", desc := "(Ljava/util/HashMap$Node;Ljava/util/HashMap$Node;)Ljava/util/HashMap$Node;" } : Jvm.MethodName)) ∈ lw_all := lw_g (lw_at lw_m3 48 rfl) rfl
theorem q783 : (Jvm.Cond.code ({ cls := "java/util/HashMap", name := "replacementNode", desc := "(Ljava/util/HashMap$Node;Ljava/util/HashMap$Node;)Ljava/util/HashMap$Node;" } : Jvm.MethodName) prog_53_method_47_code (3 : Nat) (Option.some (Jvm.ClassFile.FieldType.object "java/util/HashMap$Node"))) ∈ lw_all := lw_g (lw_at lw_m3 49 rfl) rfl
theorem q785 : (Jvm.Cond.methodLink "java/util/HashMap" (375 : Nat) ({ cls := "java/util/HashMap$Node", name := "<init>", desc := "(ILjava/lang/Object;Ljava/lang/Object;Ljava/util/HashMap$Node;)V" } : Jvm.MethodName)) ∈ lw_all := lw_g (lw_at lw_m3 51 rfl) rfl
theorem q792 : (Jvm.Cond.fieldLink "java/util/HashMap" (168 : Nat) "java/util/HashMap$Node" "hash" "I") ∈ lw_all := lw_g (lw_at lw_m3 58 rfl) rfl
theorem q796 : (Jvm.Cond.fieldLink "java/util/HashMap" (170 : Nat) "java/util/HashMap$Node" "key" "Ljava/lang/Object;") ∈ lw_all := lw_g (lw_at lw_m3 62 rfl) rfl
theorem q798 : (Jvm.Cond.fieldLink "java/util/HashMap" (162 : Nat) "java/util/HashMap$Node" "value" "Ljava/lang/Object;") ∈ lw_all := lw_g (lw_at lw_m3 64 rfl) rfl
theorem q803 : (Jvm.Cond.fieldLink "java/util/HashMap" (177 : Nat) "java/util/HashMap$Node" "next" "Ljava/util/HashMap$Node;") ∈ lw_all := lw_g (lw_at lw_m3 69 rfl) rfl
theorem q804 : (Jvm.Cond.fieldLink "java/util/HashMap" (223 : Nat) "java/util/HashMap$TreeNode" "next" "Ljava/util/HashMap$Node;") ∈ lw_all := lw_g (lw_at lw_m3 70 rfl) rfl
theorem q819 : (Jvm.Cond.static ({ cls := "java/util/HashMap", name := "comparableClassFor", desc := "(Ljava/lang/Object;)Ljava/lang/Class;" } : Jvm.MethodName)) ∈ lw_all := lw_g (lw_at lw_m3 85 rfl) rfl
theorem q820 : (Jvm.Cond.code ({ cls := "java/util/HashMap", name := "comparableClassFor", desc := "(Ljava/lang/Object;)Ljava/lang/Class;" } : Jvm.MethodName) prog_53_method_2_code (9 : Nat) (Option.some (Jvm.ClassFile.FieldType.object "java/lang/Class"))) ∈ lw_all := lw_g (lw_at lw_m3 86 rfl) rfl
theorem q821 : (Jvm.Cond.classLink "java/util/HashMap" (7 : Nat) "java/lang/Comparable") ∈ lw_all := lw_g (lw_at lw_m3 87 rfl) rfl
theorem q822 : (Jvm.Cond.methodLink "java/util/HashMap" (9 : Nat) ({ cls := "java/lang/Object", name := "getClass", desc := "()Ljava/lang/Class;" } : Jvm.MethodName)) ∈ lw_all := lw_g (lw_at lw_m3 88 rfl) rfl
theorem q849 : (Jvm.Cond.selects "java/util/HashMap" ({ cls := "java/lang/Object", name := "getClass", desc := "()Ljava/lang/Class;" } : Jvm.MethodName) ({ cls := "java/lang/Object", name := "getClass", desc := "()Ljava/lang/Class;" } : Jvm.MethodName)) ∈ lw_all := lw_g (lw_at lw_m3 115 rfl) rfl
theorem q856 : (Jvm.Cond.classLink "java/util/HashMap" (13 : Nat) "java/lang/String") ∈ lw_all := lw_g (lw_at lw_m3 122 rfl) rfl
theorem q858 : (Jvm.Cond.static ({ cls := "java/util/HashMap", name := "compareComparables", desc := "(Ljava/lang/Class;Ljava/lang/Object;Ljava/lang/Object;)I" } : Jvm.MethodName)) ∈ lw_all := lw_g (lw_at lw_m3 124 rfl) rfl
theorem q859 : (Jvm.Cond.code ({ cls := "java/util/HashMap", name := "compareComparables", desc := "(Ljava/lang/Class;Ljava/lang/Object;Ljava/lang/Object;)I" } : Jvm.MethodName) prog_53_method_3_code (3 : Nat) (Option.some Jvm.ClassFile.FieldType.int)) ∈ lw_all := lw_g (lw_at lw_m3 125 rfl) rfl
theorem q860 : (Jvm.Cond.interfaceEntry "java/util/HashMap" (30 : Nat)) ∈ lw_tbl := lw_at lw_m3 126 rfl
theorem q861 : (Jvm.Cond.methodLink "java/util/HashMap" (30 : Nat) ({ cls := "java/lang/Comparable", name := "compareTo", desc := "(Ljava/lang/Object;)I" } : Jvm.MethodName)) ∈ lw_all := lw_g (lw_at lw_m3 127 rfl) rfl
theorem q1101 : (Jvm.Cond.methodLink "java/util/HashMap" (186 : Nat) ({ cls := "java/util/HashMap", name := "newNode", desc := "(ILjava/lang/Object;Ljava/lang/Object;Ljava/util/HashMap$Node;)Ljava/util/HashMap$Node;" } : Jvm.MethodName)) ∈ lw_all := lw_g (lw_at lw_m4 127 rfl) rfl
theorem q1102 : (Jvm.Cond.instanceMethod ({ cls := "java/util/HashMap", name := "newNode", desc := "(ILjava/lang/Object;Ljava/lang/Object;Ljava/util/HashMap$Node;)Ljava/util/HashMap$Node;" } : Jvm.MethodName)) ∈ lw_all := lw_g (lw_at lw_m4 128 rfl) rfl
theorem q1103 : (Jvm.Cond.selects "java/util/HashMap" ({ cls := "java/util/HashMap", name := "newNode", desc := "(ILjava/lang/Object;Ljava/lang/Object;Ljava/util/HashMap$Node;)Ljava/util/HashMap$Node;" } : Jvm.MethodName) ({ cls := "java/util/HashMap", name := "newNode", desc := "(ILjava/lang/Object;Ljava/lang/Object;Ljava/util/HashMap$Node;)Ljava/util/HashMap$Node;" } : Jvm.MethodName)) ∈ lw_all := lw_g (lw_at lw_m4 129 rfl) rfl
theorem q1104 : (Jvm.Cond.code ({ cls := "java/util/HashMap", name := "newNode", desc := "(ILjava/lang/Object;Ljava/lang/Object;Ljava/util/HashMap$Node;)Ljava/util/HashMap$Node;" } : Jvm.MethodName) prog_53_method_46_code (5 : Nat) (Option.some (Jvm.ClassFile.FieldType.object "java/util/HashMap$Node"))) ∈ lw_all := lw_g (lw_at lw_m4 130 rfl) rfl
theorem q1106 : (Jvm.Cond.methodLink "java/util/HashMap" (173 : Nat) ({ cls := "java/lang/Object", name := "equals", desc := "(Ljava/lang/Object;)Z" } : Jvm.MethodName)) ∈ lw_all := lw_g (lw_at lw_m4 132 rfl) rfl
theorem q1147 : (Jvm.Cond.methodLink "java/util/HashMap" (190 : Nat) ({ cls := "java/util/HashMap$TreeNode", name := "putTreeVal", desc := "(Ljava/util/HashMap;[Ljava/util/HashMap$Node;ILjava/lang/Object;Ljava/lang/Object;)Ljava/util/HashMap$TreeNode;" } : Jvm.MethodName)) ∈ lw_all := lw_g (lw_at lw_m4 173 rfl) rfl
theorem q1161 : (Jvm.Cond.instanceMethod ({ cls := "java/util/HashMap", name := "newTreeNode", desc := "(ILjava/lang/Object;Ljava/lang/Object;Ljava/util/HashMap$Node;)Ljava/util/HashMap$TreeNode;" } : Jvm.MethodName)) ∈ lw_all := lw_g (lw_at lw_m4 187 rfl) rfl
theorem q1162 : (Jvm.Cond.selects "java/util/HashMap" ({ cls := "java/util/HashMap", name := "newTreeNode", desc := "(ILjava/lang/Object;Ljava/lang/Object;Ljava/util/HashMap$Node;)Ljava/util/HashMap$TreeNode;" } : Jvm.MethodName) ({ cls := "java/util/HashMap", name := "newTreeNode", desc := "(ILjava/lang/Object;Ljava/lang/Object;Ljava/util/HashMap$Node;)Ljava/util/HashMap$TreeNode;" } : Jvm.MethodName)) ∈ lw_all := lw_g (lw_at lw_m4 188 rfl) rfl
theorem q1163 : (Jvm.Cond.code ({ cls := "java/util/HashMap", name := "newTreeNode", desc := "(ILjava/lang/Object;Ljava/lang/Object;Ljava/util/HashMap$Node;)Ljava/util/HashMap$TreeNode;" } : Jvm.MethodName) prog_53_method_48_code (5 : Nat) (Option.some (Jvm.ClassFile.FieldType.object "java/util/HashMap$TreeNode"))) ∈ lw_all := lw_g (lw_at lw_m4 189 rfl) rfl
theorem q1165 : (Jvm.Cond.methodLink "java/util/HashMap" (378 : Nat) ({ cls := "java/util/HashMap$TreeNode", name := "<init>", desc := "(ILjava/lang/Object;Ljava/lang/Object;Ljava/util/HashMap$Node;)V" } : Jvm.MethodName)) ∈ lw_all := lw_g (lw_at lw_m4 191 rfl) rfl
theorem q1176 : (Jvm.Cond.fieldLink "java/util/HashMap" (219 : Nat) "java/util/HashMap$TreeNode" "prev" "Ljava/util/HashMap$TreeNode;") ∈ lw_all := lw_g (lw_at lw_m4 202 rfl) rfl
theorem q1197 : (Jvm.Cond.methodLink "java/util/HashMap" (194 : Nat) ({ cls := "java/util/HashMap", name := "treeifyBin", desc := "([Ljava/util/HashMap$Node;I)V" } : Jvm.MethodName)) ∈ lw_all := lw_g (lw_at lw_m4 223 rfl) rfl
theorem q1198 : (Jvm.Cond.instanceMethod ({ cls := "java/util/HashMap", name := "treeifyBin", desc := "([Ljava/util/HashMap$Node;I)V" } : Jvm.MethodName)) ∈ lw_all := lw_g (lw_at lw_m4 224 rfl) rfl
theorem q1199 : (Jvm.Cond.selects "java/util/HashMap" ({ cls := "java/util/HashMap", name := "treeifyBin", desc := "([Ljava/util/HashMap$Node;I)V" } : Jvm.MethodName) ({ cls := "java/util/HashMap", name := "treeifyBin", desc := "([Ljava/util/HashMap$Node;I)V" } : Jvm.MethodName)) ∈ lw_all := lw_g (lw_at lw_m4 225 rfl) rfl
theorem q1200 : (Jvm.Cond.code ({ cls := "java/util/HashMap", name := "treeifyBin", desc := "([Ljava/util/HashMap$Node;I)V" } : Jvm.MethodName) prog_53_method_18_code (9 : Nat) (Option.none : Option Jvm.ClassFile.FieldType)) ∈ lw_all := lw_g (lw_at lw_m4 226 rfl) rfl
theorem q1201 : (Jvm.Cond.methodLink "java/util/HashMap" (215 : Nat) ({ cls := "java/util/HashMap", name := "replacementTreeNode", desc := "(Ljava/util/HashMap$Node;Ljava/util/HashMap$Node;)Ljava/util/HashMap$TreeNode;" } : Jvm.MethodName)) ∈ lw_all := lw_g (lw_at lw_m4 227 rfl) rfl
theorem q1202 : (Jvm.Cond.instanceMethod ({ cls := "java/util/HashMap", name := "replacementTreeNode", desc := "(Ljava/util/HashMap$Node;Ljava/util/HashMap$Node;)Ljava/util/HashMap$TreeNode;" } : Jvm.MethodName)) ∈ lw_all := lw_g (lw_at lw_m4 228 rfl) rfl
theorem q1203 : (Jvm.Cond.selects "java/util/HashMap" ({ cls := "java/util/HashMap", name := "replacementTreeNode", desc := "(Ljava/util/HashMap$Node;Ljava/util/HashMap$Node;)Ljava/util/HashMap$TreeNode;" } : Jvm.MethodName) ({ cls := "java/util/HashMap", name := "replacementTreeNode", desc := "(Ljava/util/HashMap$Node;Ljava/util/HashMap$Node;)Ljava/util/HashMap$TreeNode;" } : Jvm.MethodName)) ∈ lw_all := lw_g (lw_at lw_m4 229 rfl) rfl
theorem q1204 : (Jvm.Cond.code ({ cls := "java/util/HashMap", name := "replacementTreeNode", desc := "(Ljava/util/HashMap$Node;Ljava/util/HashMap$Node;)Ljava/util/HashMap$TreeNode;" } : Jvm.MethodName) prog_53_method_49_code (3 : Nat) (Option.some (Jvm.ClassFile.FieldType.object "java/util/HashMap$TreeNode"))) ∈ lw_all := lw_g (lw_at lw_m4 230 rfl) rfl
theorem q1205 : (Jvm.Cond.methodLink "java/util/HashMap" (224 : Nat) ({ cls := "java/util/HashMap$TreeNode", name := "treeify", desc := "([Ljava/util/HashMap$Node;)V" } : Jvm.MethodName)) ∈ lw_all := lw_g (lw_at lw_m4 231 rfl) rfl
theorem q1206 : (Jvm.Cond.methodLink "java/util/HashMap" (198 : Nat) ({ cls := "java/util/HashMap", name := "afterNodeAccess", desc := "(Ljava/util/HashMap$Node;)V" } : Jvm.MethodName)) ∈ lw_all := lw_g (lw_at lw_m4 232 rfl) rfl
theorem q1207 : (Jvm.Cond.instanceMethod ({ cls := "java/util/HashMap", name := "afterNodeAccess", desc := "(Ljava/util/HashMap$Node;)V" } : Jvm.MethodName)) ∈ lw_all := lw_g (lw_at lw_m4 233 rfl) rfl
theorem q1208 : (Jvm.Cond.selects "java/util/HashMap" ({ cls := "java/util/HashMap", name := "afterNodeAccess", desc := "(Ljava/util/HashMap$Node;)V" } : Jvm.MethodName) ({ cls := "java/util/HashMap", name := "afterNodeAccess", desc := "(Ljava/util/HashMap$Node;)V" } : Jvm.MethodName)) ∈ lw_all := lw_g (lw_at lw_m4 234 rfl) rfl
theorem q1209 : (Jvm.Cond.code ({ cls := "java/util/HashMap", name := "afterNodeAccess", desc := "(Ljava/util/HashMap$Node;)V" } : Jvm.MethodName) prog_53_method_51_code (2 : Nat) (Option.none : Option Jvm.ClassFile.FieldType)) ∈ lw_all := lw_g (lw_at lw_m4 235 rfl) rfl
theorem q1210 : (Jvm.Cond.methodLink "java/util/HashMap" (205 : Nat) ({ cls := "java/util/HashMap", name := "afterNodeInsertion", desc := "(Z)V" } : Jvm.MethodName)) ∈ lw_all := lw_g (lw_at lw_m4 236 rfl) rfl
theorem q1211 : (Jvm.Cond.instanceMethod ({ cls := "java/util/HashMap", name := "afterNodeInsertion", desc := "(Z)V" } : Jvm.MethodName)) ∈ lw_all := lw_g (lw_at lw_m4 237 rfl) rfl
theorem q1212 : (Jvm.Cond.selects "java/util/HashMap" ({ cls := "java/util/HashMap", name := "afterNodeInsertion", desc := "(Z)V" } : Jvm.MethodName) ({ cls := "java/util/HashMap", name := "afterNodeInsertion", desc := "(Z)V" } : Jvm.MethodName)) ∈ lw_all := lw_g (lw_at lw_m4 238 rfl) rfl
theorem q1213 : (Jvm.Cond.code ({ cls := "java/util/HashMap", name := "afterNodeInsertion", desc := "(Z)V" } : Jvm.MethodName) prog_53_method_52_code (2 : Nat) (Option.none : Option Jvm.ClassFile.FieldType)) ∈ lw_all := lw_g (lw_at lw_m4 239 rfl) rfl
theorem q2529 : (Jvm.Cond.instanceMethod ({ cls := "java/util/HashMap", name := "containsKey", desc := "(Ljava/lang/Object;)Z" } : Jvm.MethodName)) ∈ lw_all := lw_g (lw_at lw_m10 115 rfl) rfl
theorem q2530 : (Jvm.Cond.selects "java/util/HashMap" ({ cls := "java/util/HashMap", name := "containsKey", desc := "(Ljava/lang/Object;)Z" } : Jvm.MethodName) ({ cls := "java/util/HashMap", name := "containsKey", desc := "(Ljava/lang/Object;)Z" } : Jvm.MethodName)) ∈ lw_all := lw_g (lw_at lw_m10 116 rfl) rfl
theorem q2531 : (Jvm.Cond.code ({ cls := "java/util/HashMap", name := "containsKey", desc := "(Ljava/lang/Object;)Z" } : Jvm.MethodName) prog_53_method_14_code (2 : Nat) (Option.some Jvm.ClassFile.FieldType.boolean)) ∈ lw_all := lw_g (lw_at lw_m10 117 rfl) rfl
theorem q2532 : (Jvm.Cond.methodLink "java/util/HashMap" (158 : Nat) ({ cls := "java/util/HashMap", name := "getNode", desc := "(Ljava/lang/Object;)Ljava/util/HashMap$Node;" } : Jvm.MethodName)) ∈ lw_all := lw_g (lw_at lw_m10 118 rfl) rfl
theorem q2533 : (Jvm.Cond.instanceMethod ({ cls := "java/util/HashMap", name := "getNode", desc := "(Ljava/lang/Object;)Ljava/util/HashMap$Node;" } : Jvm.MethodName)) ∈ lw_all := lw_g (lw_at lw_m10 119 rfl) rfl
theorem q2534 : (Jvm.Cond.selects "java/util/HashMap" ({ cls := "java/util/HashMap", name := "getNode", desc := "(Ljava/lang/Object;)Ljava/util/HashMap$Node;" } : Jvm.MethodName) ({ cls := "java/util/HashMap", name := "getNode", desc := "(Ljava/lang/Object;)Ljava/util/HashMap$Node;" } : Jvm.MethodName)) ∈ lw_all := lw_g (lw_at lw_m10 120 rfl) rfl
theorem q2535 : (Jvm.Cond.code ({ cls := "java/util/HashMap", name := "getNode", desc := "(Ljava/lang/Object;)Ljava/util/HashMap$Node;" } : Jvm.MethodName) prog_53_method_13_code (8 : Nat) (Option.some (Jvm.ClassFile.FieldType.object "java/util/HashMap$Node"))) ∈ lw_all := lw_g (lw_at lw_m10 121 rfl) rfl
theorem q2536 : (Jvm.Cond.methodLink "java/util/HashMap" (182 : Nat) ({ cls := "java/util/HashMap$TreeNode", name := "getTreeNode", desc := "(ILjava/lang/Object;)Ljava/util/HashMap$TreeNode;" } : Jvm.MethodName)) ∈ lw_all := lw_g (lw_at lw_m10 122 rfl) rfl
theorem q2636 : (Jvm.Cond.selects "java/util/HashMap" ({ cls := "java/util/Map", name := "get", desc := "(Ljava/lang/Object;)Ljava/lang/Object;" } : Jvm.MethodName) ({ cls := "java/util/HashMap", name := "get", desc := "(Ljava/lang/Object;)Ljava/lang/Object;" } : Jvm.MethodName)) ∈ lw_all := lw_g (lw_at lw_m10 222 rfl) rfl
theorem q2637 : (Jvm.Cond.unhidden "java/util/HashMap" "get" "(Ljava/lang/Object;)Ljava/lang/Object;") ∈ lw_tbl := lw_at lw_m10 223 rfl
theorem q2638 : (Jvm.Cond.instanceMethod ({ cls := "java/util/HashMap", name := "get", desc := "(Ljava/lang/Object;)Ljava/lang/Object;" } : Jvm.MethodName)) ∈ lw_all := lw_g (lw_at lw_m10 224 rfl) rfl
theorem q2639 : (Jvm.Cond.publicMethod ({ cls := "java/util/HashMap", name := "get", desc := "(Ljava/lang/Object;)Ljava/lang/Object;" } : Jvm.MethodName)) ∈ lw_tbl := lw_at lw_m10 225 rfl
theorem q2640 : (Jvm.Cond.code ({ cls := "java/util/HashMap", name := "get", desc := "(Ljava/lang/Object;)Ljava/lang/Object;" } : Jvm.MethodName) prog_53_method_12_code (3 : Nat) (Option.some (Jvm.ClassFile.FieldType.object "java/lang/Object"))) ∈ lw_all := lw_g (lw_at lw_m10 226 rfl) rfl
theorem q4319 : (Jvm.Cond.selects "java/util/HashMap" ({ cls := "java/util/HashMap", name := "put", desc := "(Ljava/lang/Object;Ljava/lang/Object;)Ljava/lang/Object;" } : Jvm.MethodName) ({ cls := "java/util/HashMap", name := "put", desc := "(Ljava/lang/Object;Ljava/lang/Object;)Ljava/lang/Object;" } : Jvm.MethodName)) ∈ lw_all := lw_g (lw_at lw_m17 225 rfl) rfl
theorem q4334 : (Jvm.Cond.castable "java/util/HashMap" "java/lang/Object") ∈ lw_tbl := lw_at lw_m18 0 rfl
theorem in_J1 : ∀ w ∈ wsJ10, w ∈ lw_all := lw_in wsJ10 [481, 483, 469, 471, 473, 475, 477, 479] (by decide +kernel) (by decide +kernel)
/-! java/lang/String -/
set_option maxRecDepth 100000
def RJ2 : String := "java/lang/String"
def TJ2 : u_T := fun k => match k with
  | 0 => ("java/lang/String", "value", "[B", true)
  | 1 => ("java/lang/String", "coder", "B", true)
  | 2 => ("java/lang/String", "hash", "I", false)
  | _ => ("java/lang/String", "hashIsZero", "Z", false)
def tyJ2 : Nat → FieldType := fun k => match k with
  | 0 => .array .byte
  | 1 => .byte
  | 2 => .int
  | _ => .boolean
abbrev wsJ20 : List Cond := u_ws RJ2 TJ2 4
theorem nmJ2 : ∀ a, a < 4 → ∀ b, b < 4 → a ≠ b → (TJ2 a).2.1 ≠ (TJ2 b).2.1 := by decide +kernel
theorem tyJ2_ok : ∀ k, k < 4 → parseFieldDescriptor (TJ2 k).2.2.1 = some (tyJ2 k) := by decide +kernel
abbrev cJ2_length : ByteArray := prog_37_method_54_code
def yJ2_length : MethodName := ⟨RJ2, "length", "()I"⟩
abbrev cJ2_coder : ByteArray := prog_37_method_152_code
def yJ2_coder : MethodName := ⟨RJ2, "coder", "()B"⟩
abbrev cJ2_charAt : ByteArray := prog_37_method_56_code
def yJ2_charAt : MethodName := ⟨RJ2, "charAt", "(I)C"⟩
abbrev cJ2_isLatin1 : ByteArray := prog_37_method_154_code
def yJ2_isLatin1 : MethodName := ⟨RJ2, "isLatin1", "()Z"⟩
abbrev cJ2_checkIndex : ByteArray := prog_37_method_155_code
def yJ2_checkIndex : MethodName := ⟨RJ2, "checkIndex", "(II)V"⟩
abbrev cJ2_substring : ByteArray := prog_37_method_92_code
def yJ2_substring : MethodName := ⟨RJ2, "substring", "(II)Ljava/lang/String;"⟩
abbrev cJ2_checkBoundsBeginEnd : ByteArray := prog_37_method_158_code
def yJ2_checkBoundsBeginEnd : MethodName := ⟨RJ2, "checkBoundsBeginEnd", "(III)V"⟩
abbrev cJ2_init : ByteArray := prog_37_method_151_code
def yJ2_init : MethodName := ⟨RJ2, "<init>", "([BB)V"⟩
abbrev cJ2_checkBoundsOffCount : ByteArray := prog_37_method_157_code
def yJ2_checkBoundsOffCount : MethodName := ⟨RJ2, "checkBoundsOffCount", "(III)I"⟩
abbrev cJ2_hashCode : ByteArray := prog_37_method_78_code
def yJ2_hashCode : MethodName := ⟨RJ2, "hashCode", "()I"⟩
abbrev cJ2_compareTo : ByteArray := prog_37_method_162_code
def yJ2_compareTo : MethodName := ⟨RJ2, "compareTo", "(Ljava/lang/Object;)I"⟩
abbrev cJ2_compareTo_2 : ByteArray := prog_37_method_71_code
def yJ2_compareTo_2 : MethodName := ⟨RJ2, "compareTo", "(Ljava/lang/String;)I"⟩
abbrev cJ2_checkOffset : ByteArray := prog_37_method_156_code
def yJ2_checkOffset : MethodName := ⟨RJ2, "checkOffset", "(II)V"⟩
abbrev cJ2_equals : ByteArray := prog_37_method_66_code
def yJ2_equals : MethodName := ⟨RJ2, "equals", "(Ljava/lang/Object;)Z"⟩
abbrev cJ2_init_2 : ByteArray := prog_37_method_53_code
def yJ2_init_2 : MethodName := ⟨RJ2, "<init>", "(Ljava/lang/StringBuilder;)V"⟩
abbrev cJ2_init_3 : ByteArray := prog_37_method_150_code
def yJ2_init_3 : MethodName := ⟨RJ2, "<init>", "(Ljava/lang/AbstractStringBuilder;Ljava/lang/Void;)V"⟩
abbrev cJ2_indexOf : ByteArray := prog_37_method_79_code
def yJ2_indexOf : MethodName := ⟨RJ2, "indexOf", "(I)I"⟩
abbrev cJ2_indexOf_2 : ByteArray := prog_37_method_80_code
def yJ2_indexOf_2 : MethodName := ⟨RJ2, "indexOf", "(II)I"⟩
abbrev cJ2_isEmpty : ByteArray := prog_37_method_55_code
def yJ2_isEmpty : MethodName := ⟨RJ2, "isEmpty", "()Z"⟩
theorem q262 : (Jvm.Cond.initialized "java/lang/String") ∈ lw_all := lw_g (lw_at lw_m1 8 rfl) rfl
theorem q488 : (Jvm.Cond.instanceMethod ({ cls := "java/lang/String", name := "length", desc := "()I" } : Jvm.MethodName)) ∈ lw_all := lw_g (lw_at lw_m1 234 rfl) rfl
theorem q489 : (Jvm.Cond.selects "java/lang/String" ({ cls := "java/lang/String", name := "length", desc := "()I" } : Jvm.MethodName) ({ cls := "java/lang/String", name := "length", desc := "()I" } : Jvm.MethodName)) ∈ lw_all := lw_g (lw_at lw_m1 235 rfl) rfl
theorem q490 : (Jvm.Cond.code ({ cls := "java/lang/String", name := "length", desc := "()I" } : Jvm.MethodName) prog_37_method_54_code (1 : Nat) (Option.some Jvm.ClassFile.FieldType.int)) ∈ lw_all := lw_g (lw_at lw_m1 236 rfl) rfl
theorem q491 : (Jvm.Cond.methodLink "java/lang/String" (335 : Nat) ({ cls := "java/lang/String", name := "coder", desc := "()B" } : Jvm.MethodName)) ∈ lw_all := lw_g (lw_at lw_m1 237 rfl) rfl
theorem q492 : (Jvm.Cond.instanceMethod ({ cls := "java/lang/String", name := "coder", desc := "()B" } : Jvm.MethodName)) ∈ lw_all := lw_g (lw_at lw_m1 238 rfl) rfl
theorem q493 : (Jvm.Cond.selects "java/lang/String" ({ cls := "java/lang/String", name := "coder", desc := "()B" } : Jvm.MethodName) ({ cls := "java/lang/String", name := "coder", desc := "()B" } : Jvm.MethodName)) ∈ lw_all := lw_g (lw_at lw_m1 239 rfl) rfl
theorem q494 : (Jvm.Cond.code ({ cls := "java/lang/String", name := "coder", desc := "()B" } : Jvm.MethodName) prog_37_method_152_code (1 : Nat) (Option.some Jvm.ClassFile.FieldType.byte)) ∈ lw_all := lw_g (lw_at lw_m2 0 rfl) rfl
theorem q495 : (Jvm.Cond.fieldLink "java/lang/String" (38 : Nat) "java/lang/String" "COMPACT_STRINGS" "Z") ∈ lw_all := lw_g (lw_at lw_m2 1 rfl) rfl
theorem q496 : (Jvm.Cond.laysStatic "java/lang/String" "COMPACT_STRINGS" "Z") ∈ lw_tbl := lw_at lw_m2 2 rfl
theorem q498 : (Jvm.Cond.instanceMethod ({ cls := "java/lang/String", name := "charAt", desc := "(I)C" } : Jvm.MethodName)) ∈ lw_all := lw_g (lw_at lw_m2 4 rfl) rfl
theorem q499 : (Jvm.Cond.selects "java/lang/String" ({ cls := "java/lang/String", name := "charAt", desc := "(I)C" } : Jvm.MethodName) ({ cls := "java/lang/String", name := "charAt", desc := "(I)C" } : Jvm.MethodName)) ∈ lw_all := lw_g (lw_at lw_m2 5 rfl) rfl
theorem q500 : (Jvm.Cond.code ({ cls := "java/lang/String", name := "charAt", desc := "(I)C" } : Jvm.MethodName) prog_37_method_56_code (2 : Nat) (Option.some Jvm.ClassFile.FieldType.char)) ∈ lw_all := lw_g (lw_at lw_m2 6 rfl) rfl
theorem q501 : (Jvm.Cond.methodLink "java/lang/String" (492 : Nat) ({ cls := "java/lang/String", name := "isLatin1", desc := "()Z" } : Jvm.MethodName)) ∈ lw_all := lw_g (lw_at lw_m2 7 rfl) rfl
theorem q502 : (Jvm.Cond.instanceMethod ({ cls := "java/lang/String", name := "isLatin1", desc := "()Z" } : Jvm.MethodName)) ∈ lw_all := lw_g (lw_at lw_m2 8 rfl) rfl
theorem q503 : (Jvm.Cond.selects "java/lang/String" ({ cls := "java/lang/String", name := "isLatin1", desc := "()Z" } : Jvm.MethodName) ({ cls := "java/lang/String", name := "isLatin1", desc := "()Z" } : Jvm.MethodName)) ∈ lw_all := lw_g (lw_at lw_m2 9 rfl) rfl
theorem q504 : (Jvm.Cond.code ({ cls := "java/lang/String", name := "isLatin1", desc := "()Z" } : Jvm.MethodName) prog_37_method_154_code (1 : Nat) (Option.some Jvm.ClassFile.FieldType.boolean)) ∈ lw_all := lw_g (lw_at lw_m2 10 rfl) rfl
theorem q505 : (Jvm.Cond.methodLink "java/lang/String" (495 : Nat) ({ cls := "java/lang/StringLatin1", name := "charAt", desc := "([BI)C" } : Jvm.MethodName)) ∈ lw_all := lw_g (lw_at lw_m2 11 rfl) rfl
theorem q509 : (Jvm.Cond.static ({ cls := "java/lang/String", name := "checkIndex", desc := "(II)V" } : Jvm.MethodName)) ∈ lw_all := lw_g (lw_at lw_m2 15 rfl) rfl
theorem q510 : (Jvm.Cond.code ({ cls := "java/lang/String", name := "checkIndex", desc := "(II)V" } : Jvm.MethodName) prog_37_method_155_code (2 : Nat) (Option.none : Option Jvm.ClassFile.FieldType)) ∈ lw_all := lw_g (lw_at lw_m2 16 rfl) rfl
theorem q511 : (Jvm.Cond.fieldLink "java/lang/String" (1053 : Nat) "jdk/internal/util/Preconditions" "SIOOBE_FORMATTER" "Ljava/util/function/BiFunction;") ∈ lw_all := lw_g (lw_at lw_m2 17 rfl) rfl
theorem q513 : (Jvm.Cond.methodLink "java/lang/String" (1059 : Nat) ({ cls := "jdk/internal/util/Preconditions", name := "checkIndex", desc := "(IILjava/util/function/BiFunction;)I" } : Jvm.MethodName)) ∈ lw_all := lw_g (lw_at lw_m2 19 rfl) rfl
theorem q516 : (Jvm.Cond.methodLink "java/lang/String" (498 : Nat) ({ cls := "java/lang/StringUTF16", name := "charAt", desc := "([BI)C" } : Jvm.MethodName)) ∈ lw_all := lw_g (lw_at lw_m2 22 rfl) rfl
theorem q536 : (Jvm.Cond.instanceMethod ({ cls := "java/lang/String", name := "substring", desc := "(II)Ljava/lang/String;" } : Jvm.MethodName)) ∈ lw_all := lw_g (lw_at lw_m2 42 rfl) rfl
theorem q537 : (Jvm.Cond.selects "java/lang/String" ({ cls := "java/lang/String", name := "substring", desc := "(II)Ljava/lang/String;" } : Jvm.MethodName) ({ cls := "java/lang/String", name := "substring", desc := "(II)Ljava/lang/String;" } : Jvm.MethodName)) ∈ lw_all := lw_g (lw_at lw_m2 43 rfl) rfl
theorem q538 : (Jvm.Cond.code ({ cls := "java/lang/String", name := "substring", desc := "(II)Ljava/lang/String;" } : Jvm.MethodName) prog_37_method_92_code (5 : Nat) (Option.some (Jvm.ClassFile.FieldType.object "java/lang/String"))) ∈ lw_all := lw_g (lw_at lw_m2 44 rfl) rfl
theorem q539 : (Jvm.Cond.methodLink "java/lang/String" (505 : Nat) ({ cls := "java/lang/String", name := "length", desc := "()I" } : Jvm.MethodName)) ∈ lw_all := lw_g (lw_at lw_m2 45 rfl) rfl
theorem q540 : (Jvm.Cond.methodLink "java/lang/String" (521 : Nat) ({ cls := "java/lang/String", name := "checkBoundsBeginEnd", desc := "(III)V" } : Jvm.MethodName)) ∈ lw_all := lw_g (lw_at lw_m2 46 rfl) rfl
theorem q541 : (Jvm.Cond.static ({ cls := "java/lang/String", name := "checkBoundsBeginEnd", desc := "(III)V" } : Jvm.MethodName)) ∈ lw_all := lw_g (lw_at lw_m2 47 rfl) rfl
theorem q542 : (Jvm.Cond.code ({ cls := "java/lang/String", name := "checkBoundsBeginEnd", desc := "(III)V" } : Jvm.MethodName) prog_37_method_158_code (3 : Nat) (Option.none : Option Jvm.ClassFile.FieldType)) ∈ lw_all := lw_g (lw_at lw_m2 48 rfl) rfl
theorem q543 : (Jvm.Cond.methodLink "java/lang/String" (1062 : Nat) ({ cls := "jdk/internal/util/Preconditions", name := "checkFromToIndex", desc := "(IIILjava/util/function/BiFunction;)I" } : Jvm.MethodName)) ∈ lw_all := lw_g (lw_at lw_m2 49 rfl) rfl
theorem q546 : (Jvm.Cond.methodLink "java/lang/String" (685 : Nat) ({ cls := "java/lang/StringLatin1", name := "newString", desc := "([BII)Ljava/lang/String;" } : Jvm.MethodName)) ∈ lw_all := lw_g (lw_at lw_m2 52 rfl) rfl
theorem q551 : (Jvm.Cond.instantiable "java/lang/String" (4 : Nat)) ∈ lw_all := lw_g (lw_at lw_m2 57 rfl) rfl
theorem q575 : (Jvm.Cond.instanceMethod ({ cls := "java/lang/String", name := "<init>", desc := "([BB)V" } : Jvm.MethodName)) ∈ lw_all := lw_g (lw_at lw_m2 81 rfl) rfl
theorem q576 : (Jvm.Cond.code ({ cls := "java/lang/String", name := "<init>", desc := "([BB)V" } : Jvm.MethodName) prog_37_method_151_code (3 : Nat) (Option.none : Option Jvm.ClassFile.FieldType)) ∈ lw_all := lw_g (lw_at lw_m2 82 rfl) rfl
theorem q577 : (Jvm.Cond.methodLink "java/lang/String" (1 : Nat) ({ cls := "java/lang/Object", name := "<init>", desc := "()V" } : Jvm.MethodName)) ∈ lw_all := lw_g (lw_at lw_m2 83 rfl) rfl
theorem q578 : (Jvm.Cond.fieldLink "java/lang/String" (9 : Nat) "java/lang/String" "value" "[B") ∈ lw_all := lw_g (lw_at lw_m2 84 rfl) rfl
theorem q579 : (Jvm.Cond.fieldLink "java/lang/String" (15 : Nat) "java/lang/String" "coder" "B") ∈ lw_all := lw_g (lw_at lw_m2 85 rfl) rfl
theorem q580 : (Jvm.Cond.fieldLink "java/lang/String" (19 : Nat) "java/lang/String" "hash" "I") ∈ lw_all := lw_g (lw_at lw_m2 86 rfl) rfl
theorem q581 : (Jvm.Cond.fieldLink "java/lang/String" (23 : Nat) "java/lang/String" "hashIsZero" "Z") ∈ lw_all := lw_g (lw_at lw_m2 87 rfl) rfl
theorem q582 : (Jvm.Cond.laysFinal "java/lang/String" "java/lang/String" "value" "[B") ∈ lw_all := lw_g (lw_at lw_m2 88 rfl) rfl
theorem q583 : (Jvm.Cond.soleField "java/lang/String" "value") ∈ lw_all := lw_g (lw_at lw_m2 89 rfl) rfl
theorem q584 : (Jvm.Cond.laysFinal "java/lang/String" "java/lang/String" "coder" "B") ∈ lw_all := lw_g (lw_at lw_m2 90 rfl) rfl
theorem q585 : (Jvm.Cond.soleField "java/lang/String" "coder") ∈ lw_all := lw_g (lw_at lw_m2 91 rfl) rfl
theorem q586 : (Jvm.Cond.lays "java/lang/String" "java/lang/String" "hash" "I") ∈ lw_all := lw_g (lw_at lw_m2 92 rfl) rfl
theorem q587 : (Jvm.Cond.soleField "java/lang/String" "hash") ∈ lw_all := lw_g (lw_at lw_m2 93 rfl) rfl
theorem q588 : (Jvm.Cond.lays "java/lang/String" "java/lang/String" "hashIsZero" "Z") ∈ lw_all := lw_g (lw_at lw_m2 94 rfl) rfl
theorem q589 : (Jvm.Cond.soleField "java/lang/String" "hashIsZero") ∈ lw_all := lw_g (lw_at lw_m2 95 rfl) rfl
theorem q590 : (Jvm.Cond.superclass "java/lang/String" "java/lang/Object") ∈ lw_all := lw_g (lw_at lw_m2 96 rfl) rfl
theorem q591 : (Jvm.Cond.methodLink "java/lang/String" (689 : Nat) ({ cls := "java/lang/StringUTF16", name := "newString", desc := "([BII)Ljava/lang/String;" } : Jvm.MethodName)) ∈ lw_all := lw_g (lw_at lw_m2 97 rfl) rfl
theorem q606 : (Jvm.Cond.static ({ cls := "java/lang/String", name := "checkBoundsOffCount", desc := "(III)I" } : Jvm.MethodName)) ∈ lw_all := lw_g (lw_at lw_m2 112 rfl) rfl
theorem q607 : (Jvm.Cond.code ({ cls := "java/lang/String", name := "checkBoundsOffCount", desc := "(III)I" } : Jvm.MethodName) prog_37_method_157_code (3 : Nat) (Option.some Jvm.ClassFile.FieldType.int)) ∈ lw_all := lw_g (lw_at lw_m2 113 rfl) rfl
theorem q608 : (Jvm.Cond.methodLink "java/lang/String" (1065 : Nat) ({ cls := "jdk/internal/util/Preconditions", name := "checkFromIndexSize", desc := "(IIILjava/util/function/BiFunction;)I" } : Jvm.MethodName)) ∈ lw_all := lw_g (lw_at lw_m2 114 rfl) rfl
theorem q705 : (Jvm.Cond.selects "java/lang/String" ({ cls := "java/lang/Object", name := "hashCode", desc := "()I" } : Jvm.MethodName) ({ cls := "java/lang/String", name := "hashCode", desc := "()I" } : Jvm.MethodName)) ∈ lw_all := lw_g (lw_at lw_m2 211 rfl) rfl
theorem q706 : (Jvm.Cond.instanceMethod ({ cls := "java/lang/String", name := "hashCode", desc := "()I" } : Jvm.MethodName)) ∈ lw_all := lw_g (lw_at lw_m2 212 rfl) rfl
theorem q707 : (Jvm.Cond.code ({ cls := "java/lang/String", name := "hashCode", desc := "()I" } : Jvm.MethodName) prog_37_method_78_code (2 : Nat) (Option.some Jvm.ClassFile.FieldType.int)) ∈ lw_all := lw_g (lw_at lw_m2 213 rfl) rfl
theorem q708 : (Jvm.Cond.methodLink "java/lang/String" (628 : Nat) ({ cls := "java/lang/StringLatin1", name := "hashCode", desc := "([B)I" } : Jvm.MethodName)) ∈ lw_all := lw_g (lw_at lw_m2 214 rfl) rfl
theorem q749 : (Jvm.Cond.methodLink "java/lang/String" (632 : Nat) ({ cls := "java/lang/StringUTF16", name := "hashCode", desc := "([B)I" } : Jvm.MethodName)) ∈ lw_all := lw_g (lw_at lw_m3 15 rfl) rfl
theorem q845 : (Jvm.Cond.selects "java/lang/String" ({ cls := "java/lang/Object", name := "getClass", desc := "()Ljava/lang/Class;" } : Jvm.MethodName) ({ cls := "java/lang/Object", name := "getClass", desc := "()Ljava/lang/Class;" } : Jvm.MethodName)) ∈ lw_all := lw_g (lw_at lw_m3 111 rfl) rfl
theorem q901 : (Jvm.Cond.castable "java/lang/String" "java/lang/Comparable") ∈ lw_tbl := lw_at lw_m3 167 rfl
theorem q902 : (Jvm.Cond.selects "java/lang/String" ({ cls := "java/lang/Comparable", name := "compareTo", desc := "(Ljava/lang/Object;)I" } : Jvm.MethodName) ({ cls := "java/lang/String", name := "compareTo", desc := "(Ljava/lang/Object;)I" } : Jvm.MethodName)) ∈ lw_all := lw_g (lw_at lw_m3 168 rfl) rfl
theorem q903 : (Jvm.Cond.unhidden "java/lang/String" "compareTo" "(Ljava/lang/Object;)I") ∈ lw_tbl := lw_at lw_m3 169 rfl
theorem q904 : (Jvm.Cond.instanceMethod ({ cls := "java/lang/String", name := "compareTo", desc := "(Ljava/lang/Object;)I" } : Jvm.MethodName)) ∈ lw_all := lw_g (lw_at lw_m3 170 rfl) rfl
theorem q905 : (Jvm.Cond.publicMethod ({ cls := "java/lang/String", name := "compareTo", desc := "(Ljava/lang/Object;)I" } : Jvm.MethodName)) ∈ lw_tbl := lw_at lw_m3 171 rfl
theorem q906 : (Jvm.Cond.code ({ cls := "java/lang/String", name := "compareTo", desc := "(Ljava/lang/Object;)I" } : Jvm.MethodName) prog_37_method_162_code (2 : Nat) (Option.some Jvm.ClassFile.FieldType.int)) ∈ lw_all := lw_g (lw_at lw_m3 172 rfl) rfl
theorem q907 : (Jvm.Cond.classLink "java/lang/String" (10 : Nat) "java/lang/String") ∈ lw_all := lw_g (lw_at lw_m3 173 rfl) rfl
theorem q908 : (Jvm.Cond.methodLink "java/lang/String" (1084 : Nat) ({ cls := "java/lang/String", name := "compareTo", desc := "(Ljava/lang/String;)I" } : Jvm.MethodName)) ∈ lw_all := lw_g (lw_at lw_m3 174 rfl) rfl
theorem q909 : (Jvm.Cond.instanceMethod ({ cls := "java/lang/String", name := "compareTo", desc := "(Ljava/lang/String;)I" } : Jvm.MethodName)) ∈ lw_all := lw_g (lw_at lw_m3 175 rfl) rfl
theorem q910 : (Jvm.Cond.selects "java/lang/String" ({ cls := "java/lang/String", name := "compareTo", desc := "(Ljava/lang/String;)I" } : Jvm.MethodName) ({ cls := "java/lang/String", name := "compareTo", desc := "(Ljava/lang/String;)I" } : Jvm.MethodName)) ∈ lw_all := lw_g (lw_at lw_m3 176 rfl) rfl
theorem q911 : (Jvm.Cond.code ({ cls := "java/lang/String", name := "compareTo", desc := "(Ljava/lang/String;)I" } : Jvm.MethodName) prog_37_method_71_code (5 : Nat) (Option.some Jvm.ClassFile.FieldType.int)) ∈ lw_all := lw_g (lw_at lw_m3 177 rfl) rfl
theorem q912 : (Jvm.Cond.methodLink "java/lang/String" (586 : Nat) ({ cls := "java/lang/StringLatin1", name := "compareTo", desc := "([B[B)I" } : Jvm.MethodName)) ∈ lw_all := lw_g (lw_at lw_m3 178 rfl) rfl
theorem q1026 : (Jvm.Cond.methodLink "java/lang/String" (590 : Nat) ({ cls := "java/lang/StringUTF16", name := "compareTo", desc := "([B[B)I" } : Jvm.MethodName)) ∈ lw_all := lw_g (lw_at lw_m4 52 rfl) rfl
theorem q1033 : (Jvm.Cond.methodLink "java/lang/String" (591 : Nat) ({ cls := "java/lang/StringLatin1", name := "compareToUTF16", desc := "([B[B)I" } : Jvm.MethodName)) ∈ lw_all := lw_g (lw_at lw_m4 59 rfl) rfl
theorem q1044 : (Jvm.Cond.methodLink "java/lang/String" (594 : Nat) ({ cls := "java/lang/StringUTF16", name := "compareToLatin1", desc := "([B[B)I" } : Jvm.MethodName)) ∈ lw_all := lw_g (lw_at lw_m4 70 rfl) rfl
theorem q1077 : (Jvm.Cond.static ({ cls := "java/lang/String", name := "checkOffset", desc := "(II)V" } : Jvm.MethodName)) ∈ lw_all := lw_g (lw_at lw_m4 103 rfl) rfl
theorem q1078 : (Jvm.Cond.code ({ cls := "java/lang/String", name := "checkOffset", desc := "(II)V" } : Jvm.MethodName) prog_37_method_156_code (2 : Nat) (Option.none : Option Jvm.ClassFile.FieldType)) ∈ lw_all := lw_g (lw_at lw_m4 104 rfl) rfl
theorem q1137 : (Jvm.Cond.selects "java/lang/String" ({ cls := "java/lang/Object", name := "equals", desc := "(Ljava/lang/Object;)Z" } : Jvm.MethodName) ({ cls := "java/lang/String", name := "equals", desc := "(Ljava/lang/Object;)Z" } : Jvm.MethodName)) ∈ lw_all := lw_g (lw_at lw_m4 163 rfl) rfl
theorem q1138 : (Jvm.Cond.instanceMethod ({ cls := "java/lang/String", name := "equals", desc := "(Ljava/lang/Object;)Z" } : Jvm.MethodName)) ∈ lw_all := lw_g (lw_at lw_m4 164 rfl) rfl
theorem q1139 : (Jvm.Cond.code ({ cls := "java/lang/String", name := "equals", desc := "(Ljava/lang/Object;)Z" } : Jvm.MethodName) prog_37_method_66_code (3 : Nat) (Option.some Jvm.ClassFile.FieldType.boolean)) ∈ lw_all := lw_g (lw_at lw_m4 165 rfl) rfl
theorem q1140 : (Jvm.Cond.methodLink "java/lang/String" (541 : Nat) ({ cls := "java/lang/StringLatin1", name := "equals", desc := "([B[B)Z" } : Jvm.MethodName)) ∈ lw_all := lw_g (lw_at lw_m4 166 rfl) rfl
theorem q1544 : (Jvm.Cond.fieldLink "java/lang/String" (1048 : Nat) "java/lang/AbstractStringBuilder" "maybeLatin1" "Z") ∈ lw_all := lw_g (lw_at lw_m6 90 rfl) rfl
theorem q1813 : (Jvm.Cond.instanceMethod ({ cls := "java/lang/String", name := "<init>", desc := "(Ljava/lang/StringBuilder;)V" } : Jvm.MethodName)) ∈ lw_all := lw_g (lw_at lw_m7 119 rfl) rfl
theorem q1814 : (Jvm.Cond.code ({ cls := "java/lang/String", name := "<init>", desc := "(Ljava/lang/StringBuilder;)V" } : Jvm.MethodName) prog_37_method_53_code (2 : Nat) (Option.none : Option Jvm.ClassFile.FieldType)) ∈ lw_all := lw_g (lw_at lw_m7 120 rfl) rfl
theorem q1815 : (Jvm.Cond.methodLink "java/lang/String" (489 : Nat) ({ cls := "java/lang/String", name := "<init>", desc := "(Ljava/lang/AbstractStringBuilder;Ljava/lang/Void;)V" } : Jvm.MethodName)) ∈ lw_all := lw_g (lw_at lw_m7 121 rfl) rfl
theorem q1816 : (Jvm.Cond.instanceMethod ({ cls := "java/lang/String", name := "<init>", desc := "(Ljava/lang/AbstractStringBuilder;Ljava/lang/Void;)V" } : Jvm.MethodName)) ∈ lw_all := lw_g (lw_at lw_m7 122 rfl) rfl
theorem q1817 : (Jvm.Cond.code ({ cls := "java/lang/String", name := "<init>", desc := "(Ljava/lang/AbstractStringBuilder;Ljava/lang/Void;)V" } : Jvm.MethodName) prog_37_method_150_code (5 : Nat) (Option.none : Option Jvm.ClassFile.FieldType)) ∈ lw_all := lw_g (lw_at lw_m7 123 rfl) rfl
theorem q1818 : (Jvm.Cond.methodLink "java/lang/String" (552 : Nat) ({ cls := "java/lang/AbstractStringBuilder", name := "getValue", desc := "()[B" } : Jvm.MethodName)) ∈ lw_all := lw_g (lw_at lw_m7 124 rfl) rfl
theorem q1823 : (Jvm.Cond.methodLink "java/lang/String" (549 : Nat) ({ cls := "java/lang/AbstractStringBuilder", name := "length", desc := "()I" } : Jvm.MethodName)) ∈ lw_all := lw_g (lw_at lw_m7 129 rfl) rfl
theorem q1824 : (Jvm.Cond.methodLink "java/lang/String" (1047 : Nat) ({ cls := "java/lang/AbstractStringBuilder", name := "isLatin1", desc := "()Z" } : Jvm.MethodName)) ∈ lw_all := lw_g (lw_at lw_m7 130 rfl) rfl
theorem q1825 : (Jvm.Cond.methodLink "java/lang/String" (54 : Nat) ({ cls := "java/util/Arrays", name := "copyOfRange", desc := "([BII)[B" } : Jvm.MethodName)) ∈ lw_all := lw_g (lw_at lw_m7 131 rfl) rfl
theorem q1826 : (Jvm.Cond.methodLink "java/lang/String" (1051 : Nat) ({ cls := "java/lang/StringUTF16", name := "compress", desc := "([BII)[B" } : Jvm.MethodName)) ∈ lw_all := lw_g (lw_at lw_m7 132 rfl) rfl
theorem q1827 : (Jvm.Cond.methodLink "java/lang/String" (47 : Nat) ({ cls := "java/lang/StringUTF16", name := "coderFromArrayLen", desc := "([BI)B" } : Jvm.MethodName)) ∈ lw_all := lw_g (lw_at lw_m7 133 rfl) rfl
theorem q1901 : (Jvm.Cond.instanceMethod ({ cls := "java/lang/String", name := "indexOf", desc := "(I)I" } : Jvm.MethodName)) ∈ lw_all := lw_g (lw_at lw_m7 207 rfl) rfl
theorem q1902 : (Jvm.Cond.selects "java/lang/String" ({ cls := "java/lang/String", name := "indexOf", desc := "(I)I" } : Jvm.MethodName) ({ cls := "java/lang/String", name := "indexOf", desc := "(I)I" } : Jvm.MethodName)) ∈ lw_all := lw_g (lw_at lw_m7 208 rfl) rfl
theorem q1903 : (Jvm.Cond.code ({ cls := "java/lang/String", name := "indexOf", desc := "(I)I" } : Jvm.MethodName) prog_37_method_79_code (2 : Nat) (Option.some Jvm.ClassFile.FieldType.int)) ∈ lw_all := lw_g (lw_at lw_m7 209 rfl) rfl
theorem q1904 : (Jvm.Cond.methodLink "java/lang/String" (633 : Nat) ({ cls := "java/lang/String", name := "indexOf", desc := "(II)I" } : Jvm.MethodName)) ∈ lw_all := lw_g (lw_at lw_m7 210 rfl) rfl
theorem q1905 : (Jvm.Cond.instanceMethod ({ cls := "java/lang/String", name := "indexOf", desc := "(II)I" } : Jvm.MethodName)) ∈ lw_all := lw_g (lw_at lw_m7 211 rfl) rfl
theorem q1906 : (Jvm.Cond.selects "java/lang/String" ({ cls := "java/lang/String", name := "indexOf", desc := "(II)I" } : Jvm.MethodName) ({ cls := "java/lang/String", name := "indexOf", desc := "(II)I" } : Jvm.MethodName)) ∈ lw_all := lw_g (lw_at lw_m7 212 rfl) rfl
theorem q1907 : (Jvm.Cond.code ({ cls := "java/lang/String", name := "indexOf", desc := "(II)I" } : Jvm.MethodName) prog_37_method_80_code (3 : Nat) (Option.some Jvm.ClassFile.FieldType.int)) ∈ lw_all := lw_g (lw_at lw_m7 213 rfl) rfl
theorem q1908 : (Jvm.Cond.methodLink "java/lang/String" (637 : Nat) ({ cls := "java/lang/StringLatin1", name := "indexOf", desc := "([BIII)I" } : Jvm.MethodName)) ∈ lw_all := lw_g (lw_at lw_m7 214 rfl) rfl
theorem q1918 : (Jvm.Cond.methodLink "java/lang/String" (640 : Nat) ({ cls := "java/lang/StringUTF16", name := "indexOf", desc := "([BIII)I" } : Jvm.MethodName)) ∈ lw_all := lw_g (lw_at lw_m7 224 rfl) rfl
theorem q2320 : (Jvm.Cond.instanceMethod ({ cls := "java/lang/String", name := "isEmpty", desc := "()Z" } : Jvm.MethodName)) ∈ lw_all := lw_g (lw_at lw_m9 146 rfl) rfl
theorem q2321 : (Jvm.Cond.selects "java/lang/String" ({ cls := "java/lang/String", name := "isEmpty", desc := "()Z" } : Jvm.MethodName) ({ cls := "java/lang/String", name := "isEmpty", desc := "()Z" } : Jvm.MethodName)) ∈ lw_all := lw_g (lw_at lw_m9 147 rfl) rfl
theorem q2322 : (Jvm.Cond.code ({ cls := "java/lang/String", name := "isEmpty", desc := "()Z" } : Jvm.MethodName) prog_37_method_55_code (1 : Nat) (Option.some Jvm.ClassFile.FieldType.boolean)) ∈ lw_all := lw_g (lw_at lw_m9 148 rfl) rfl
theorem q4309 : (Jvm.Cond.selects "java/lang/String" ({ cls := "java/lang/String", name := "hashCode", desc := "()I" } : Jvm.MethodName) ({ cls := "java/lang/String", name := "hashCode", desc := "()I" } : Jvm.MethodName)) ∈ lw_all := lw_g (lw_at lw_m17 215 rfl) rfl
theorem q4310 : (Jvm.Cond.selects "java/lang/String" ({ cls := "java/lang/String", name := "equals", desc := "(Ljava/lang/Object;)Z" } : Jvm.MethodName) ({ cls := "java/lang/String", name := "equals", desc := "(Ljava/lang/Object;)Z" } : Jvm.MethodName)) ∈ lw_all := lw_g (lw_at lw_m17 216 rfl) rfl
theorem q4335 : (Jvm.Cond.castable "java/lang/String" "java/lang/Object") ∈ lw_tbl := lw_at lw_m18 1 rfl
theorem in_J2 : ∀ w ∈ wsJ20, w ∈ lw_all := lw_in wsJ20 [582, 584, 586, 588] (by decide +kernel) (by decide +kernel)
/-! java/lang/StringLatin1 -/
set_option maxRecDepth 100000
def RJ3 : String := "java/lang/StringLatin1"
abbrev cJ3_charAt : ByteArray := prog_39_method_2_code
def yJ3_charAt : MethodName := ⟨RJ3, "charAt", "([BI)C"⟩
abbrev cJ3_newString : ByteArray := prog_39_method_47_code
def yJ3_newString : MethodName := ⟨RJ3, "newString", "([BII)Ljava/lang/String;"⟩
abbrev cJ3_hashCode : ByteArray := prog_39_method_21_code
def yJ3_hashCode : MethodName := ⟨RJ3, "hashCode", "([B)I"⟩
abbrev cJ3_compareTo : ByteArray := prog_39_method_14_code
def yJ3_compareTo : MethodName := ⟨RJ3, "compareTo", "([B[B)I"⟩
abbrev cJ3_compareTo_2 : ByteArray := prog_39_method_15_code
def yJ3_compareTo_2 : MethodName := ⟨RJ3, "compareTo", "([B[BII)I"⟩
abbrev cJ3_getChar : ByteArray := prog_39_method_44_code
def yJ3_getChar : MethodName := ⟨RJ3, "getChar", "([BI)C"⟩
abbrev cJ3_compareToUTF16 : ByteArray := prog_39_method_16_code
def yJ3_compareToUTF16 : MethodName := ⟨RJ3, "compareToUTF16", "([B[B)I"⟩
abbrev cJ3_length : ByteArray := prog_39_method_5_code
def yJ3_length : MethodName := ⟨RJ3, "length", "([B)I"⟩
abbrev cJ3_compareToUTF16Values : ByteArray := prog_39_method_18_code
def yJ3_compareToUTF16Values : MethodName := ⟨RJ3, "compareToUTF16Values", "([B[BII)I"⟩
abbrev cJ3_compareToUTF16_2 : ByteArray := prog_39_method_17_code
def yJ3_compareToUTF16_2 : MethodName := ⟨RJ3, "compareToUTF16", "([B[BII)I"⟩
abbrev cJ3_equals : ByteArray := prog_39_method_13_code
def yJ3_equals : MethodName := ⟨RJ3, "equals", "([B[B)Z"⟩
abbrev cJ3_fillNull : ByteArray := prog_39_method_48_code
def yJ3_fillNull : MethodName := ⟨RJ3, "fillNull", "([BII)V"⟩
abbrev cJ3_canEncode : ByteArray := prog_39_method_3_code
def yJ3_canEncode : MethodName := ⟨RJ3, "canEncode", "(C)Z"⟩
abbrev cJ3_inflate : ByteArray := prog_39_method_50_code
def yJ3_inflate : MethodName := ⟨RJ3, "inflate", "([BI[BII)V"⟩
abbrev cJ3_indexOf : ByteArray := prog_39_method_22_code
def yJ3_indexOf : MethodName := ⟨RJ3, "indexOf", "([BIII)I"⟩
abbrev cJ3_canEncode_2 : ByteArray := prog_39_method_4_code
def yJ3_canEncode_2 : MethodName := ⟨RJ3, "canEncode", "(I)Z"⟩
abbrev cJ3_indexOfChar : ByteArray := prog_39_method_23_code
def yJ3_indexOfChar : MethodName := ⟨RJ3, "indexOfChar", "([BIII)I"⟩
theorem q263 : (Jvm.Cond.initialized "java/lang/StringLatin1") ∈ lw_all := lw_g (lw_at lw_m1 9 rfl) rfl
theorem q506 : (Jvm.Cond.static ({ cls := "java/lang/StringLatin1", name := "charAt", desc := "([BI)C" } : Jvm.MethodName)) ∈ lw_all := lw_g (lw_at lw_m2 12 rfl) rfl
theorem q507 : (Jvm.Cond.code ({ cls := "java/lang/StringLatin1", name := "charAt", desc := "([BI)C" } : Jvm.MethodName) prog_39_method_2_code (2 : Nat) (Option.some Jvm.ClassFile.FieldType.char)) ∈ lw_all := lw_g (lw_at lw_m2 13 rfl) rfl
theorem q508 : (Jvm.Cond.methodLink "java/lang/StringLatin1" (9 : Nat) ({ cls := "java/lang/String", name := "checkIndex", desc := "(II)V" } : Jvm.MethodName)) ∈ lw_all := lw_g (lw_at lw_m2 14 rfl) rfl
theorem q547 : (Jvm.Cond.static ({ cls := "java/lang/StringLatin1", name := "newString", desc := "([BII)Ljava/lang/String;" } : Jvm.MethodName)) ∈ lw_all := lw_g (lw_at lw_m2 53 rfl) rfl
theorem q548 : (Jvm.Cond.code ({ cls := "java/lang/StringLatin1", name := "newString", desc := "([BII)Ljava/lang/String;" } : Jvm.MethodName) prog_39_method_47_code (3 : Nat) (Option.some (Jvm.ClassFile.FieldType.object "java/lang/String"))) ∈ lw_all := lw_g (lw_at lw_m2 54 rfl) rfl
theorem q549 : (Jvm.Cond.stringRef "java/lang/StringLatin1" (151 : Nat) "") ∈ lw_tbl := lw_at lw_m2 55 rfl
theorem q550 : (Jvm.Cond.classLink "java/lang/StringLatin1" (1 : Nat) "java/lang/String") ∈ lw_all := lw_g (lw_at lw_m2 56 rfl) rfl
theorem q552 : (Jvm.Cond.methodLink "java/lang/StringLatin1" (232 : Nat) ({ cls := "java/util/Arrays", name := "copyOfRange", desc := "([BII)[B" } : Jvm.MethodName)) ∈ lw_all := lw_g (lw_at lw_m2 58 rfl) rfl
theorem q574 : (Jvm.Cond.methodLink "java/lang/StringLatin1" (112 : Nat) ({ cls := "java/lang/String", name := "<init>", desc := "([BB)V" } : Jvm.MethodName)) ∈ lw_all := lw_g (lw_at lw_m2 80 rfl) rfl
theorem q709 : (Jvm.Cond.static ({ cls := "java/lang/StringLatin1", name := "hashCode", desc := "([B)I" } : Jvm.MethodName)) ∈ lw_all := lw_g (lw_at lw_m2 215 rfl) rfl
theorem q710 : (Jvm.Cond.code ({ cls := "java/lang/StringLatin1", name := "hashCode", desc := "([B)I" } : Jvm.MethodName) prog_39_method_21_code (1 : Nat) (Option.some Jvm.ClassFile.FieldType.int)) ∈ lw_all := lw_g (lw_at lw_m2 216 rfl) rfl
theorem q711 : (Jvm.Cond.methodLink "java/lang/StringLatin1" (84 : Nat) ({ cls := "jdk/internal/util/ArraysSupport", name := "vectorizedHashCode", desc := "(Ljava/lang/Object;IIII)I" } : Jvm.MethodName)) ∈ lw_all := lw_g (lw_at lw_m2 217 rfl) rfl
theorem q913 : (Jvm.Cond.static ({ cls := "java/lang/StringLatin1", name := "compareTo", desc := "([B[B)I" } : Jvm.MethodName)) ∈ lw_all := lw_g (lw_at lw_m3 179 rfl) rfl
theorem q914 : (Jvm.Cond.code ({ cls := "java/lang/StringLatin1", name := "compareTo", desc := "([B[B)I" } : Jvm.MethodName) prog_39_method_14_code (4 : Nat) (Option.some Jvm.ClassFile.FieldType.int)) ∈ lw_all := lw_g (lw_at lw_m3 180 rfl) rfl
theorem q915 : (Jvm.Cond.methodLink "java/lang/StringLatin1" (34 : Nat) ({ cls := "java/lang/StringLatin1", name := "compareTo", desc := "([B[BII)I" } : Jvm.MethodName)) ∈ lw_all := lw_g (lw_at lw_m3 181 rfl) rfl
theorem q916 : (Jvm.Cond.static ({ cls := "java/lang/StringLatin1", name := "compareTo", desc := "([B[BII)I" } : Jvm.MethodName)) ∈ lw_all := lw_g (lw_at lw_m3 182 rfl) rfl
theorem q917 : (Jvm.Cond.code ({ cls := "java/lang/StringLatin1", name := "compareTo", desc := "([B[BII)I" } : Jvm.MethodName) prog_39_method_15_code (6 : Nat) (Option.some Jvm.ClassFile.FieldType.int)) ∈ lw_all := lw_g (lw_at lw_m3 183 rfl) rfl
theorem q918 : (Jvm.Cond.methodLink "java/lang/StringLatin1" (38 : Nat) ({ cls := "java/lang/Math", name := "min", desc := "(II)I" } : Jvm.MethodName)) ∈ lw_all := lw_g (lw_at lw_m3 184 rfl) rfl
theorem q919 : (Jvm.Cond.methodLink "java/lang/StringLatin1" (44 : Nat) ({ cls := "jdk/internal/util/ArraysSupport", name := "mismatch", desc := "([B[BI)I" } : Jvm.MethodName)) ∈ lw_all := lw_g (lw_at lw_m3 185 rfl) rfl
theorem q1023 : (Jvm.Cond.methodLink "java/lang/StringLatin1" (50 : Nat) ({ cls := "java/lang/StringLatin1", name := "getChar", desc := "([BI)C" } : Jvm.MethodName)) ∈ lw_all := lw_g (lw_at lw_m4 49 rfl) rfl
theorem q1024 : (Jvm.Cond.static ({ cls := "java/lang/StringLatin1", name := "getChar", desc := "([BI)C" } : Jvm.MethodName)) ∈ lw_all := lw_g (lw_at lw_m4 50 rfl) rfl
theorem q1025 : (Jvm.Cond.code ({ cls := "java/lang/StringLatin1", name := "getChar", desc := "([BI)C" } : Jvm.MethodName) prog_39_method_44_code (2 : Nat) (Option.some Jvm.ClassFile.FieldType.char)) ∈ lw_all := lw_g (lw_at lw_m4 51 rfl) rfl
theorem q1034 : (Jvm.Cond.static ({ cls := "java/lang/StringLatin1", name := "compareToUTF16", desc := "([B[B)I" } : Jvm.MethodName)) ∈ lw_all := lw_g (lw_at lw_m4 60 rfl) rfl
theorem q1035 : (Jvm.Cond.code ({ cls := "java/lang/StringLatin1", name := "compareToUTF16", desc := "([B[B)I" } : Jvm.MethodName) prog_39_method_16_code (4 : Nat) (Option.some Jvm.ClassFile.FieldType.int)) ∈ lw_all := lw_g (lw_at lw_m4 61 rfl) rfl
theorem q1036 : (Jvm.Cond.methodLink "java/lang/StringLatin1" (54 : Nat) ({ cls := "java/lang/StringLatin1", name := "length", desc := "([B)I" } : Jvm.MethodName)) ∈ lw_all := lw_g (lw_at lw_m4 62 rfl) rfl
theorem q1037 : (Jvm.Cond.static ({ cls := "java/lang/StringLatin1", name := "length", desc := "([B)I" } : Jvm.MethodName)) ∈ lw_all := lw_g (lw_at lw_m4 63 rfl) rfl
theorem q1038 : (Jvm.Cond.code ({ cls := "java/lang/StringLatin1", name := "length", desc := "([B)I" } : Jvm.MethodName) prog_39_method_5_code (1 : Nat) (Option.some Jvm.ClassFile.FieldType.int)) ∈ lw_all := lw_g (lw_at lw_m4 64 rfl) rfl
theorem q1039 : (Jvm.Cond.methodLink "java/lang/StringLatin1" (58 : Nat) ({ cls := "java/lang/StringUTF16", name := "length", desc := "([B)I" } : Jvm.MethodName)) ∈ lw_all := lw_g (lw_at lw_m4 65 rfl) rfl
theorem q1040 : (Jvm.Cond.methodLink "java/lang/StringLatin1" (59 : Nat) ({ cls := "java/lang/StringLatin1", name := "compareToUTF16Values", desc := "([B[BII)I" } : Jvm.MethodName)) ∈ lw_all := lw_g (lw_at lw_m4 66 rfl) rfl
theorem q1041 : (Jvm.Cond.static ({ cls := "java/lang/StringLatin1", name := "compareToUTF16Values", desc := "([B[BII)I" } : Jvm.MethodName)) ∈ lw_all := lw_g (lw_at lw_m4 67 rfl) rfl
theorem q1042 : (Jvm.Cond.code ({ cls := "java/lang/StringLatin1", name := "compareToUTF16Values", desc := "([B[BII)I" } : Jvm.MethodName) prog_39_method_18_code (8 : Nat) (Option.some Jvm.ClassFile.FieldType.int)) ∈ lw_all := lw_g (lw_at lw_m4 68 rfl) rfl
theorem q1043 : (Jvm.Cond.methodLink "java/lang/StringLatin1" (65 : Nat) ({ cls := "java/lang/StringUTF16", name := "getChar", desc := "([BI)C" } : Jvm.MethodName)) ∈ lw_all := lw_g (lw_at lw_m4 69 rfl) rfl
theorem q1080 : (Jvm.Cond.static ({ cls := "java/lang/StringLatin1", name := "compareToUTF16", desc := "([B[BII)I" } : Jvm.MethodName)) ∈ lw_all := lw_g (lw_at lw_m4 106 rfl) rfl
theorem q1081 : (Jvm.Cond.code ({ cls := "java/lang/StringLatin1", name := "compareToUTF16", desc := "([B[BII)I" } : Jvm.MethodName) prog_39_method_17_code (4 : Nat) (Option.some Jvm.ClassFile.FieldType.int)) ∈ lw_all := lw_g (lw_at lw_m4 107 rfl) rfl
theorem q1082 : (Jvm.Cond.methodLink "java/lang/StringLatin1" (62 : Nat) ({ cls := "java/lang/String", name := "checkOffset", desc := "(II)V" } : Jvm.MethodName)) ∈ lw_all := lw_g (lw_at lw_m4 108 rfl) rfl
theorem q1141 : (Jvm.Cond.static ({ cls := "java/lang/StringLatin1", name := "equals", desc := "([B[B)Z" } : Jvm.MethodName)) ∈ lw_all := lw_g (lw_at lw_m4 167 rfl) rfl
theorem q1142 : (Jvm.Cond.code ({ cls := "java/lang/StringLatin1", name := "equals", desc := "([B[B)Z" } : Jvm.MethodName) prog_39_method_13_code (3 : Nat) (Option.some Jvm.ClassFile.FieldType.boolean)) ∈ lw_all := lw_g (lw_at lw_m4 168 rfl) rfl
theorem q1688 : (Jvm.Cond.static ({ cls := "java/lang/StringLatin1", name := "fillNull", desc := "([BII)V" } : Jvm.MethodName)) ∈ lw_all := lw_g (lw_at lw_m6 234 rfl) rfl
theorem q1689 : (Jvm.Cond.code ({ cls := "java/lang/StringLatin1", name := "fillNull", desc := "([BII)V" } : Jvm.MethodName) prog_39_method_48_code (3 : Nat) (Option.none : Option Jvm.ClassFile.FieldType)) ∈ lw_all := lw_g (lw_at lw_m6 235 rfl) rfl
theorem q1690 : (Jvm.Cond.methodLink "java/lang/StringLatin1" (236 : Nat) ({ cls := "java/util/Arrays", name := "fill", desc := "([BIIB)V" } : Jvm.MethodName)) ∈ lw_all := lw_g (lw_at lw_m6 236 rfl) rfl
theorem q1711 : (Jvm.Cond.static ({ cls := "java/lang/StringLatin1", name := "canEncode", desc := "(C)Z" } : Jvm.MethodName)) ∈ lw_all := lw_g (lw_at lw_m7 17 rfl) rfl
theorem q1712 : (Jvm.Cond.code ({ cls := "java/lang/StringLatin1", name := "canEncode", desc := "(C)Z" } : Jvm.MethodName) prog_39_method_3_code (1 : Nat) (Option.some Jvm.ClassFile.FieldType.boolean)) ∈ lw_all := lw_g (lw_at lw_m7 18 rfl) rfl
theorem q1718 : (Jvm.Cond.static ({ cls := "java/lang/StringLatin1", name := "inflate", desc := "([BI[BII)V" } : Jvm.MethodName)) ∈ lw_all := lw_g (lw_at lw_m7 24 rfl) rfl
theorem q1719 : (Jvm.Cond.code ({ cls := "java/lang/StringLatin1", name := "inflate", desc := "([BI[BII)V" } : Jvm.MethodName) prog_39_method_50_code (5 : Nat) (Option.none : Option Jvm.ClassFile.FieldType)) ∈ lw_all := lw_g (lw_at lw_m7 25 rfl) rfl
theorem q1720 : (Jvm.Cond.methodLink "java/lang/StringLatin1" (240 : Nat) ({ cls := "java/lang/StringUTF16", name := "inflate", desc := "([BI[BII)V" } : Jvm.MethodName)) ∈ lw_all := lw_g (lw_at lw_m7 26 rfl) rfl
theorem q1909 : (Jvm.Cond.static ({ cls := "java/lang/StringLatin1", name := "indexOf", desc := "([BIII)I" } : Jvm.MethodName)) ∈ lw_all := lw_g (lw_at lw_m7 215 rfl) rfl
theorem q1910 : (Jvm.Cond.code ({ cls := "java/lang/StringLatin1", name := "indexOf", desc := "([BIII)I" } : Jvm.MethodName) prog_39_method_22_code (4 : Nat) (Option.some Jvm.ClassFile.FieldType.int)) ∈ lw_all := lw_g (lw_at lw_m7 216 rfl) rfl
theorem q1911 : (Jvm.Cond.methodLink "java/lang/StringLatin1" (88 : Nat) ({ cls := "java/lang/StringLatin1", name := "canEncode", desc := "(I)Z" } : Jvm.MethodName)) ∈ lw_all := lw_g (lw_at lw_m7 217 rfl) rfl
theorem q1912 : (Jvm.Cond.static ({ cls := "java/lang/StringLatin1", name := "canEncode", desc := "(I)Z" } : Jvm.MethodName)) ∈ lw_all := lw_g (lw_at lw_m7 218 rfl) rfl
theorem q1913 : (Jvm.Cond.code ({ cls := "java/lang/StringLatin1", name := "canEncode", desc := "(I)Z" } : Jvm.MethodName) prog_39_method_4_code (1 : Nat) (Option.some Jvm.ClassFile.FieldType.boolean)) ∈ lw_all := lw_g (lw_at lw_m7 219 rfl) rfl
theorem q1914 : (Jvm.Cond.methodLink "java/lang/StringLatin1" (92 : Nat) ({ cls := "java/lang/Math", name := "max", desc := "(II)I" } : Jvm.MethodName)) ∈ lw_all := lw_g (lw_at lw_m7 220 rfl) rfl
theorem q1915 : (Jvm.Cond.methodLink "java/lang/StringLatin1" (95 : Nat) ({ cls := "java/lang/StringLatin1", name := "indexOfChar", desc := "([BIII)I" } : Jvm.MethodName)) ∈ lw_all := lw_g (lw_at lw_m7 221 rfl) rfl
theorem q1916 : (Jvm.Cond.static ({ cls := "java/lang/StringLatin1", name := "indexOfChar", desc := "([BIII)I" } : Jvm.MethodName)) ∈ lw_all := lw_g (lw_at lw_m7 222 rfl) rfl
theorem q1917 : (Jvm.Cond.code ({ cls := "java/lang/StringLatin1", name := "indexOfChar", desc := "([BIII)I" } : Jvm.MethodName) prog_39_method_23_code (6 : Nat) (Option.some Jvm.ClassFile.FieldType.int)) ∈ lw_all := lw_g (lw_at lw_m7 223 rfl) rfl
/-! jdk/internal/util/Preconditions -/
set_option maxRecDepth 100000
def RJ4 : String := "jdk/internal/util/Preconditions"
abbrev cJ4_checkIndex : ByteArray := prog_70_method_11_code
def yJ4_checkIndex : MethodName := ⟨RJ4, "checkIndex", "(IILjava/util/function/BiFunction;)I"⟩
abbrev cJ4_checkFromToIndex : ByteArray := prog_70_method_12_code
def yJ4_checkFromToIndex : MethodName := ⟨RJ4, "checkFromToIndex", "(IIILjava/util/function/BiFunction;)I"⟩
abbrev cJ4_checkFromIndexSize : ByteArray := prog_70_method_13_code
def yJ4_checkFromIndexSize : MethodName := ⟨RJ4, "checkFromIndexSize", "(IIILjava/util/function/BiFunction;)I"⟩
theorem q264 : (Jvm.Cond.initialized "jdk/internal/util/Preconditions") ∈ lw_all := lw_g (lw_at lw_m1 10 rfl) rfl
theorem q512 : (Jvm.Cond.laysStatic "jdk/internal/util/Preconditions" "SIOOBE_FORMATTER" "Ljava/util/function/BiFunction;") ∈ lw_tbl := lw_at lw_m2 18 rfl
theorem q514 : (Jvm.Cond.static ({ cls := "jdk/internal/util/Preconditions", name := "checkIndex", desc := "(IILjava/util/function/BiFunction;)I" } : Jvm.MethodName)) ∈ lw_all := lw_g (lw_at lw_m2 20 rfl) rfl
theorem q515 : (Jvm.Cond.code ({ cls := "jdk/internal/util/Preconditions", name := "checkIndex", desc := "(IILjava/util/function/BiFunction;)I" } : Jvm.MethodName) prog_70_method_11_code (3 : Nat) (Option.some Jvm.ClassFile.FieldType.int)) ∈ lw_all := lw_g (lw_at lw_m2 21 rfl) rfl
theorem q544 : (Jvm.Cond.static ({ cls := "jdk/internal/util/Preconditions", name := "checkFromToIndex", desc := "(IIILjava/util/function/BiFunction;)I" } : Jvm.MethodName)) ∈ lw_all := lw_g (lw_at lw_m2 50 rfl) rfl
theorem q545 : (Jvm.Cond.code ({ cls := "jdk/internal/util/Preconditions", name := "checkFromToIndex", desc := "(IIILjava/util/function/BiFunction;)I" } : Jvm.MethodName) prog_70_method_12_code (4 : Nat) (Option.some Jvm.ClassFile.FieldType.int)) ∈ lw_all := lw_g (lw_at lw_m2 51 rfl) rfl
theorem q609 : (Jvm.Cond.static ({ cls := "jdk/internal/util/Preconditions", name := "checkFromIndexSize", desc := "(IIILjava/util/function/BiFunction;)I" } : Jvm.MethodName)) ∈ lw_all := lw_g (lw_at lw_m2 115 rfl) rfl
theorem q610 : (Jvm.Cond.code ({ cls := "jdk/internal/util/Preconditions", name := "checkFromIndexSize", desc := "(IIILjava/util/function/BiFunction;)I" } : Jvm.MethodName) prog_70_method_13_code (4 : Nat) (Option.some Jvm.ClassFile.FieldType.int)) ∈ lw_all := lw_g (lw_at lw_m2 116 rfl) rfl
/-! java/lang/StringUTF16 -/
set_option maxRecDepth 100000
def RJ5 : String := "java/lang/StringUTF16"
abbrev cJ5_charAt : ByteArray := prog_40_method_83_code
def yJ5_charAt : MethodName := ⟨RJ5, "charAt", "([BI)C"⟩
abbrev cJ5_checkIndex : ByteArray := prog_40_method_91_code
def yJ5_checkIndex : MethodName := ⟨RJ5, "checkIndex", "(I[B)V"⟩
abbrev cJ5_length : ByteArray := prog_40_method_6_code
def yJ5_length : MethodName := ⟨RJ5, "length", "([B)I"⟩
abbrev cJ5_getChar : ByteArray := prog_40_method_5_code
def yJ5_getChar : MethodName := ⟨RJ5, "getChar", "([BI)C"⟩
abbrev cJ5_newString : ByteArray := prog_40_method_69_code
def yJ5_newString : MethodName := ⟨RJ5, "newString", "([BII)Ljava/lang/String;"⟩
abbrev cJ5_compress : ByteArray := prog_40_method_17_code
def yJ5_compress : MethodName := ⟨RJ5, "compress", "([BII)[B"⟩
abbrev cJ5_compress_2 : ByteArray := prog_40_method_22_code
def yJ5_compress_2 : MethodName := ⟨RJ5, "compress", "([BI[BII)I"⟩
abbrev cJ5_checkBoundsOffCount : ByteArray := prog_40_method_94_code
def yJ5_checkBoundsOffCount : MethodName := ⟨RJ5, "checkBoundsOffCount", "(II[B)V"⟩
abbrev cJ5_newBytesLength : ByteArray := prog_40_method_3_code
def yJ5_newBytesLength : MethodName := ⟨RJ5, "newBytesLength", "(I)I"⟩
abbrev cJ5_coderFromArrayLen : ByteArray := prog_40_method_15_code
def yJ5_coderFromArrayLen : MethodName := ⟨RJ5, "coderFromArrayLen", "([BI)B"⟩
abbrev cJ5_hashCode : ByteArray := prog_40_method_39_code
def yJ5_hashCode : MethodName := ⟨RJ5, "hashCode", "([B)I"⟩
abbrev cJ5_compareTo : ByteArray := prog_40_method_29_code
def yJ5_compareTo : MethodName := ⟨RJ5, "compareTo", "([B[B)I"⟩
abbrev cJ5_compareValues : ByteArray := prog_40_method_31_code
def yJ5_compareValues : MethodName := ⟨RJ5, "compareValues", "([B[BII)I"⟩
abbrev cJ5_compareToLatin1 : ByteArray := prog_40_method_32_code
def yJ5_compareToLatin1 : MethodName := ⟨RJ5, "compareToLatin1", "([B[B)I"⟩
abbrev cJ5_compareTo_2 : ByteArray := prog_40_method_30_code
def yJ5_compareTo_2 : MethodName := ⟨RJ5, "compareTo", "([B[BII)I"⟩
abbrev cJ5_checkOffset : ByteArray := prog_40_method_92_code
def yJ5_checkOffset : MethodName := ⟨RJ5, "checkOffset", "(I[B)V"⟩
abbrev cJ5_compareToLatin1_2 : ByteArray := prog_40_method_33_code
def yJ5_compareToLatin1_2 : MethodName := ⟨RJ5, "compareToLatin1", "([B[BII)I"⟩
abbrev cJ5_newBytesFor : ByteArray := prog_40_method_2_code
def yJ5_newBytesFor : MethodName := ⟨RJ5, "newBytesFor", "(I)[B"⟩
abbrev cJ5_fillNull : ByteArray := prog_40_method_70_code
def yJ5_fillNull : MethodName := ⟨RJ5, "fillNull", "([BII)V"⟩
abbrev cJ5_inflate : ByteArray := prog_40_method_86_code
def yJ5_inflate : MethodName := ⟨RJ5, "inflate", "([BI[BII)V"⟩
abbrev cJ5_putChar : ByteArray := prog_40_method_4_code
def yJ5_putChar : MethodName := ⟨RJ5, "putChar", "([BII)V"⟩
abbrev cJ5_putCharSB : ByteArray := prog_40_method_71_code
def yJ5_putCharSB : MethodName := ⟨RJ5, "putCharSB", "([BII)V"⟩
abbrev cJ5_indexOf : ByteArray := prog_40_method_40_code
def yJ5_indexOf : MethodName := ⟨RJ5, "indexOf", "([BIII)I"⟩
abbrev cJ5_indexOfChar : ByteArray := prog_40_method_47_code
def yJ5_indexOfChar : MethodName := ⟨RJ5, "indexOfChar", "([BIII)I"⟩
abbrev cJ5_checkBoundsBeginEnd : ByteArray := prog_40_method_93_code
def yJ5_checkBoundsBeginEnd : MethodName := ⟨RJ5, "checkBoundsBeginEnd", "(II[B)V"⟩
abbrev cJ5_indexOfCharUnsafe : ByteArray := prog_40_method_48_code
def yJ5_indexOfCharUnsafe : MethodName := ⟨RJ5, "indexOfCharUnsafe", "([BIII)I"⟩
abbrev cJ5_indexOfSupplementary : ByteArray := prog_40_method_49_code
def yJ5_indexOfSupplementary : MethodName := ⟨RJ5, "indexOfSupplementary", "([BIII)I"⟩
theorem q265 : (Jvm.Cond.initialized "java/lang/StringUTF16") ∈ lw_all := lw_g (lw_at lw_m1 11 rfl) rfl
theorem q517 : (Jvm.Cond.static ({ cls := "java/lang/StringUTF16", name := "charAt", desc := "([BI)C" } : Jvm.MethodName)) ∈ lw_all := lw_g (lw_at lw_m2 23 rfl) rfl
theorem q518 : (Jvm.Cond.code ({ cls := "java/lang/StringUTF16", name := "charAt", desc := "([BI)C" } : Jvm.MethodName) prog_40_method_83_code (2 : Nat) (Option.some Jvm.ClassFile.FieldType.char)) ∈ lw_all := lw_g (lw_at lw_m2 24 rfl) rfl
theorem q519 : (Jvm.Cond.methodLink "java/lang/StringUTF16" (67 : Nat) ({ cls := "java/lang/StringUTF16", name := "checkIndex", desc := "(I[B)V" } : Jvm.MethodName)) ∈ lw_all := lw_g (lw_at lw_m2 25 rfl) rfl
theorem q520 : (Jvm.Cond.static ({ cls := "java/lang/StringUTF16", name := "checkIndex", desc := "(I[B)V" } : Jvm.MethodName)) ∈ lw_all := lw_g (lw_at lw_m2 26 rfl) rfl
theorem q521 : (Jvm.Cond.code ({ cls := "java/lang/StringUTF16", name := "checkIndex", desc := "(I[B)V" } : Jvm.MethodName) prog_40_method_91_code (2 : Nat) (Option.none : Option Jvm.ClassFile.FieldType)) ∈ lw_all := lw_g (lw_at lw_m2 27 rfl) rfl
theorem q522 : (Jvm.Cond.methodLink "java/lang/StringUTF16" (48 : Nat) ({ cls := "java/lang/StringUTF16", name := "length", desc := "([B)I" } : Jvm.MethodName)) ∈ lw_all := lw_g (lw_at lw_m2 28 rfl) rfl
theorem q523 : (Jvm.Cond.static ({ cls := "java/lang/StringUTF16", name := "length", desc := "([B)I" } : Jvm.MethodName)) ∈ lw_all := lw_g (lw_at lw_m2 29 rfl) rfl
theorem q524 : (Jvm.Cond.code ({ cls := "java/lang/StringUTF16", name := "length", desc := "([B)I" } : Jvm.MethodName) prog_40_method_6_code (1 : Nat) (Option.some Jvm.ClassFile.FieldType.int)) ∈ lw_all := lw_g (lw_at lw_m2 30 rfl) rfl
theorem q525 : (Jvm.Cond.methodLink "java/lang/StringUTF16" (414 : Nat) ({ cls := "java/lang/String", name := "checkIndex", desc := "(II)V" } : Jvm.MethodName)) ∈ lw_all := lw_g (lw_at lw_m2 31 rfl) rfl
theorem q526 : (Jvm.Cond.methodLink "java/lang/StringUTF16" (71 : Nat) ({ cls := "java/lang/StringUTF16", name := "getChar", desc := "([BI)C" } : Jvm.MethodName)) ∈ lw_all := lw_g (lw_at lw_m2 32 rfl) rfl
theorem q527 : (Jvm.Cond.static ({ cls := "java/lang/StringUTF16", name := "getChar", desc := "([BI)C" } : Jvm.MethodName)) ∈ lw_all := lw_g (lw_at lw_m2 33 rfl) rfl
theorem q528 : (Jvm.Cond.code ({ cls := "java/lang/StringUTF16", name := "getChar", desc := "([BI)C" } : Jvm.MethodName) prog_40_method_5_code (2 : Nat) (Option.some Jvm.ClassFile.FieldType.char)) ∈ lw_all := lw_g (lw_at lw_m2 34 rfl) rfl
theorem q529 : (Jvm.Cond.fieldLink "java/lang/StringUTF16" (44 : Nat) "java/lang/StringUTF16" "$assertionsDisabled" "Z") ∈ lw_all := lw_g (lw_at lw_m2 35 rfl) rfl
theorem q530 : (Jvm.Cond.laysStatic "java/lang/StringUTF16" "$assertionsDisabled" "Z") ∈ lw_tbl := lw_at lw_m2 36 rfl
theorem q531 : (Jvm.Cond.fieldLink "java/lang/StringUTF16" (59 : Nat) "java/lang/StringUTF16" "HI_BYTE_SHIFT" "I") ∈ lw_all := lw_g (lw_at lw_m2 37 rfl) rfl
theorem q532 : (Jvm.Cond.laysStatic "java/lang/StringUTF16" "HI_BYTE_SHIFT" "I") ∈ lw_tbl := lw_at lw_m2 38 rfl
theorem q533 : (Jvm.Cond.fieldLink "java/lang/StringUTF16" (63 : Nat) "java/lang/StringUTF16" "LO_BYTE_SHIFT" "I") ∈ lw_all := lw_g (lw_at lw_m2 39 rfl) rfl
theorem q534 : (Jvm.Cond.laysStatic "java/lang/StringUTF16" "LO_BYTE_SHIFT" "I") ∈ lw_tbl := lw_at lw_m2 40 rfl
theorem q592 : (Jvm.Cond.static ({ cls := "java/lang/StringUTF16", name := "newString", desc := "([BII)Ljava/lang/String;" } : Jvm.MethodName)) ∈ lw_all := lw_g (lw_at lw_m2 98 rfl) rfl
theorem q593 : (Jvm.Cond.code ({ cls := "java/lang/StringUTF16", name := "newString", desc := "([BII)Ljava/lang/String;" } : Jvm.MethodName) prog_40_method_69_code (5 : Nat) (Option.some (Jvm.ClassFile.FieldType.object "java/lang/String"))) ∈ lw_all := lw_g (lw_at lw_m2 99 rfl) rfl
theorem q594 : (Jvm.Cond.stringRef "java/lang/StringUTF16" (295 : Nat) "") ∈ lw_tbl := lw_at lw_m2 100 rfl
theorem q595 : (Jvm.Cond.fieldLink "java/lang/StringUTF16" (251 : Nat) "java/lang/String" "COMPACT_STRINGS" "Z") ∈ lw_all := lw_g (lw_at lw_m2 101 rfl) rfl
theorem q596 : (Jvm.Cond.methodLink "java/lang/StringUTF16" (257 : Nat) ({ cls := "java/lang/StringUTF16", name := "compress", desc := "([BII)[B" } : Jvm.MethodName)) ∈ lw_all := lw_g (lw_at lw_m2 102 rfl) rfl
theorem q597 : (Jvm.Cond.static ({ cls := "java/lang/StringUTF16", name := "compress", desc := "([BII)[B" } : Jvm.MethodName)) ∈ lw_all := lw_g (lw_at lw_m2 103 rfl) rfl
theorem q598 : (Jvm.Cond.code ({ cls := "java/lang/StringUTF16", name := "compress", desc := "([BII)[B" } : Jvm.MethodName) prog_40_method_17_code (6 : Nat) (Option.some (Jvm.ClassFile.FieldType.array Jvm.ClassFile.FieldType.byte))) ∈ lw_all := lw_g (lw_at lw_m2 104 rfl) rfl
theorem q599 : (Jvm.Cond.methodLink "java/lang/StringUTF16" (123 : Nat) ({ cls := "java/lang/StringUTF16", name := "compress", desc := "([BI[BII)I" } : Jvm.MethodName)) ∈ lw_all := lw_g (lw_at lw_m2 105 rfl) rfl
theorem q600 : (Jvm.Cond.static ({ cls := "java/lang/StringUTF16", name := "compress", desc := "([BI[BII)I" } : Jvm.MethodName)) ∈ lw_all := lw_g (lw_at lw_m2 106 rfl) rfl
theorem q601 : (Jvm.Cond.code ({ cls := "java/lang/StringUTF16", name := "compress", desc := "([BI[BII)I" } : Jvm.MethodName) prog_40_method_22_code (7 : Nat) (Option.some Jvm.ClassFile.FieldType.int)) ∈ lw_all := lw_g (lw_at lw_m2 107 rfl) rfl
theorem q602 : (Jvm.Cond.methodLink "java/lang/StringUTF16" (173 : Nat) ({ cls := "java/lang/StringUTF16", name := "checkBoundsOffCount", desc := "(II[B)V" } : Jvm.MethodName)) ∈ lw_all := lw_g (lw_at lw_m2 108 rfl) rfl
theorem q603 : (Jvm.Cond.static ({ cls := "java/lang/StringUTF16", name := "checkBoundsOffCount", desc := "(II[B)V" } : Jvm.MethodName)) ∈ lw_all := lw_g (lw_at lw_m2 109 rfl) rfl
theorem q604 : (Jvm.Cond.code ({ cls := "java/lang/StringUTF16", name := "checkBoundsOffCount", desc := "(II[B)V" } : Jvm.MethodName) prog_40_method_94_code (3 : Nat) (Option.none : Option Jvm.ClassFile.FieldType)) ∈ lw_all := lw_g (lw_at lw_m2 110 rfl) rfl
theorem q605 : (Jvm.Cond.methodLink "java/lang/StringUTF16" (419 : Nat) ({ cls := "java/lang/String", name := "checkBoundsOffCount", desc := "(III)I" } : Jvm.MethodName)) ∈ lw_all := lw_g (lw_at lw_m2 111 rfl) rfl
theorem q611 : (Jvm.Cond.methodLink "java/lang/StringUTF16" (11 : Nat) ({ cls := "java/lang/StringUTF16", name := "newBytesLength", desc := "(I)I" } : Jvm.MethodName)) ∈ lw_all := lw_g (lw_at lw_m2 117 rfl) rfl
theorem q612 : (Jvm.Cond.static ({ cls := "java/lang/StringUTF16", name := "newBytesLength", desc := "(I)I" } : Jvm.MethodName)) ∈ lw_all := lw_g (lw_at lw_m2 118 rfl) rfl
theorem q613 : (Jvm.Cond.code ({ cls := "java/lang/StringUTF16", name := "newBytesLength", desc := "(I)I" } : Jvm.MethodName) prog_40_method_3_code (1 : Nat) (Option.some Jvm.ClassFile.FieldType.int)) ∈ lw_all := lw_g (lw_at lw_m2 119 rfl) rfl
theorem q614 : (Jvm.Cond.constant "java/lang/StringUTF16" (20 : Nat) (1073741823 : Int32)) ∈ lw_all := lw_g (lw_at lw_m2 120 rfl) rfl
theorem q615 : (Jvm.Cond.methodLink "java/lang/StringUTF16" (126 : Nat) ({ cls := "java/util/Arrays", name := "copyOfRange", desc := "([BII)[B" } : Jvm.MethodName)) ∈ lw_all := lw_g (lw_at lw_m2 121 rfl) rfl
theorem q616 : (Jvm.Cond.methodLink "java/lang/StringUTF16" (259 : Nat) ({ cls := "java/lang/StringUTF16", name := "coderFromArrayLen", desc := "([BI)B" } : Jvm.MethodName)) ∈ lw_all := lw_g (lw_at lw_m2 122 rfl) rfl
theorem q617 : (Jvm.Cond.static ({ cls := "java/lang/StringUTF16", name := "coderFromArrayLen", desc := "([BI)B" } : Jvm.MethodName)) ∈ lw_all := lw_g (lw_at lw_m2 123 rfl) rfl
theorem q618 : (Jvm.Cond.code ({ cls := "java/lang/StringUTF16", name := "coderFromArrayLen", desc := "([BI)B" } : Jvm.MethodName) prog_40_method_15_code (2 : Nat) (Option.some Jvm.ClassFile.FieldType.byte)) ∈ lw_all := lw_g (lw_at lw_m2 124 rfl) rfl
theorem q619 : (Jvm.Cond.classLink "java/lang/StringUTF16" (3 : Nat) "java/lang/String") ∈ lw_all := lw_g (lw_at lw_m2 125 rfl) rfl
theorem q620 : (Jvm.Cond.methodLink "java/lang/StringUTF16" (263 : Nat) ({ cls := "java/lang/String", name := "<init>", desc := "([BB)V" } : Jvm.MethodName)) ∈ lw_all := lw_g (lw_at lw_m2 126 rfl) rfl
theorem q750 : (Jvm.Cond.static ({ cls := "java/lang/StringUTF16", name := "hashCode", desc := "([B)I" } : Jvm.MethodName)) ∈ lw_all := lw_g (lw_at lw_m3 16 rfl) rfl
theorem q751 : (Jvm.Cond.code ({ cls := "java/lang/StringUTF16", name := "hashCode", desc := "([B)I" } : Jvm.MethodName) prog_40_method_39_code (1 : Nat) (Option.some Jvm.ClassFile.FieldType.int)) ∈ lw_all := lw_g (lw_at lw_m3 17 rfl) rfl
theorem q752 : (Jvm.Cond.methodLink "java/lang/StringUTF16" (220 : Nat) ({ cls := "jdk/internal/util/ArraysSupport", name := "vectorizedHashCode", desc := "(Ljava/lang/Object;IIII)I" } : Jvm.MethodName)) ∈ lw_all := lw_g (lw_at lw_m3 18 rfl) rfl
theorem q1027 : (Jvm.Cond.static ({ cls := "java/lang/StringUTF16", name := "compareTo", desc := "([B[B)I" } : Jvm.MethodName)) ∈ lw_all := lw_g (lw_at lw_m4 53 rfl) rfl
theorem q1028 : (Jvm.Cond.code ({ cls := "java/lang/StringUTF16", name := "compareTo", desc := "([B[B)I" } : Jvm.MethodName) prog_40_method_29_code (4 : Nat) (Option.some Jvm.ClassFile.FieldType.int)) ∈ lw_all := lw_g (lw_at lw_m4 54 rfl) rfl
theorem q1029 : (Jvm.Cond.methodLink "java/lang/StringUTF16" (176 : Nat) ({ cls := "java/lang/StringUTF16", name := "compareValues", desc := "([B[BII)I" } : Jvm.MethodName)) ∈ lw_all := lw_g (lw_at lw_m4 55 rfl) rfl
theorem q1030 : (Jvm.Cond.static ({ cls := "java/lang/StringUTF16", name := "compareValues", desc := "([B[BII)I" } : Jvm.MethodName)) ∈ lw_all := lw_g (lw_at lw_m4 56 rfl) rfl
theorem q1031 : (Jvm.Cond.code ({ cls := "java/lang/StringUTF16", name := "compareValues", desc := "([B[BII)I" } : Jvm.MethodName) prog_40_method_31_code (8 : Nat) (Option.some Jvm.ClassFile.FieldType.int)) ∈ lw_all := lw_g (lw_at lw_m4 57 rfl) rfl
theorem q1032 : (Jvm.Cond.methodLink "java/lang/StringUTF16" (183 : Nat) ({ cls := "java/lang/Math", name := "min", desc := "(II)I" } : Jvm.MethodName)) ∈ lw_all := lw_g (lw_at lw_m4 58 rfl) rfl
theorem q1045 : (Jvm.Cond.static ({ cls := "java/lang/StringUTF16", name := "compareToLatin1", desc := "([B[B)I" } : Jvm.MethodName)) ∈ lw_all := lw_g (lw_at lw_m4 71 rfl) rfl
theorem q1046 : (Jvm.Cond.code ({ cls := "java/lang/StringUTF16", name := "compareToLatin1", desc := "([B[B)I" } : Jvm.MethodName) prog_40_method_32_code (2 : Nat) (Option.some Jvm.ClassFile.FieldType.int)) ∈ lw_all := lw_g (lw_at lw_m4 72 rfl) rfl
theorem q1047 : (Jvm.Cond.methodLink "java/lang/StringUTF16" (189 : Nat) ({ cls := "java/lang/StringLatin1", name := "compareToUTF16", desc := "([B[B)I" } : Jvm.MethodName)) ∈ lw_all := lw_g (lw_at lw_m4 73 rfl) rfl
theorem q1071 : (Jvm.Cond.static ({ cls := "java/lang/StringUTF16", name := "compareTo", desc := "([B[BII)I" } : Jvm.MethodName)) ∈ lw_all := lw_g (lw_at lw_m4 97 rfl) rfl
theorem q1072 : (Jvm.Cond.code ({ cls := "java/lang/StringUTF16", name := "compareTo", desc := "([B[BII)I" } : Jvm.MethodName) prog_40_method_30_code (4 : Nat) (Option.some Jvm.ClassFile.FieldType.int)) ∈ lw_all := lw_g (lw_at lw_m4 98 rfl) rfl
theorem q1073 : (Jvm.Cond.methodLink "java/lang/StringUTF16" (180 : Nat) ({ cls := "java/lang/StringUTF16", name := "checkOffset", desc := "(I[B)V" } : Jvm.MethodName)) ∈ lw_all := lw_g (lw_at lw_m4 99 rfl) rfl
theorem q1074 : (Jvm.Cond.static ({ cls := "java/lang/StringUTF16", name := "checkOffset", desc := "(I[B)V" } : Jvm.MethodName)) ∈ lw_all := lw_g (lw_at lw_m4 100 rfl) rfl
theorem q1075 : (Jvm.Cond.code ({ cls := "java/lang/StringUTF16", name := "checkOffset", desc := "(I[B)V" } : Jvm.MethodName) prog_40_method_92_code (2 : Nat) (Option.none : Option Jvm.ClassFile.FieldType)) ∈ lw_all := lw_g (lw_at lw_m4 101 rfl) rfl
theorem q1076 : (Jvm.Cond.methodLink "java/lang/StringUTF16" (417 : Nat) ({ cls := "java/lang/String", name := "checkOffset", desc := "(II)V" } : Jvm.MethodName)) ∈ lw_all := lw_g (lw_at lw_m4 102 rfl) rfl
theorem q1084 : (Jvm.Cond.static ({ cls := "java/lang/StringUTF16", name := "compareToLatin1", desc := "([B[BII)I" } : Jvm.MethodName)) ∈ lw_all := lw_g (lw_at lw_m4 110 rfl) rfl
theorem q1085 : (Jvm.Cond.code ({ cls := "java/lang/StringUTF16", name := "compareToLatin1", desc := "([B[BII)I" } : Jvm.MethodName) prog_40_method_33_code (4 : Nat) (Option.some Jvm.ClassFile.FieldType.int)) ∈ lw_all := lw_g (lw_at lw_m4 111 rfl) rfl
theorem q1086 : (Jvm.Cond.methodLink "java/lang/StringUTF16" (193 : Nat) ({ cls := "java/lang/StringLatin1", name := "compareToUTF16", desc := "([B[BII)I" } : Jvm.MethodName)) ∈ lw_all := lw_g (lw_at lw_m4 112 rfl) rfl
theorem q1539 : (Jvm.Cond.static ({ cls := "java/lang/StringUTF16", name := "newBytesFor", desc := "(I)[B" } : Jvm.MethodName)) ∈ lw_all := lw_g (lw_at lw_m6 85 rfl) rfl
theorem q1540 : (Jvm.Cond.code ({ cls := "java/lang/StringUTF16", name := "newBytesFor", desc := "(I)[B" } : Jvm.MethodName) prog_40_method_2_code (1 : Nat) (Option.some (Jvm.ClassFile.FieldType.array Jvm.ClassFile.FieldType.byte))) ∈ lw_all := lw_g (lw_at lw_m6 86 rfl) rfl
theorem q1697 : (Jvm.Cond.static ({ cls := "java/lang/StringUTF16", name := "fillNull", desc := "([BII)V" } : Jvm.MethodName)) ∈ lw_all := lw_g (lw_at lw_m7 3 rfl) rfl
theorem q1698 : (Jvm.Cond.code ({ cls := "java/lang/StringUTF16", name := "fillNull", desc := "([BII)V" } : Jvm.MethodName) prog_40_method_70_code (3 : Nat) (Option.none : Option Jvm.ClassFile.FieldType)) ∈ lw_all := lw_g (lw_at lw_m7 4 rfl) rfl
theorem q1699 : (Jvm.Cond.methodLink "java/lang/StringUTF16" (380 : Nat) ({ cls := "java/util/Arrays", name := "fill", desc := "([BIIB)V" } : Jvm.MethodName)) ∈ lw_all := lw_g (lw_at lw_m7 5 rfl) rfl
theorem q1721 : (Jvm.Cond.static ({ cls := "java/lang/StringUTF16", name := "inflate", desc := "([BI[BII)V" } : Jvm.MethodName)) ∈ lw_all := lw_g (lw_at lw_m7 27 rfl) rfl
theorem q1722 : (Jvm.Cond.code ({ cls := "java/lang/StringUTF16", name := "inflate", desc := "([BI[BII)V" } : Jvm.MethodName) prog_40_method_86_code (6 : Nat) (Option.none : Option Jvm.ClassFile.FieldType)) ∈ lw_all := lw_g (lw_at lw_m7 28 rfl) rfl
theorem q1723 : (Jvm.Cond.methodLink "java/lang/StringUTF16" (111 : Nat) ({ cls := "java/lang/StringUTF16", name := "putChar", desc := "([BII)V" } : Jvm.MethodName)) ∈ lw_all := lw_g (lw_at lw_m7 29 rfl) rfl
theorem q1724 : (Jvm.Cond.static ({ cls := "java/lang/StringUTF16", name := "putChar", desc := "([BII)V" } : Jvm.MethodName)) ∈ lw_all := lw_g (lw_at lw_m7 30 rfl) rfl
theorem q1725 : (Jvm.Cond.code ({ cls := "java/lang/StringUTF16", name := "putChar", desc := "([BII)V" } : Jvm.MethodName) prog_40_method_4_code (3 : Nat) (Option.none : Option Jvm.ClassFile.FieldType)) ∈ lw_all := lw_g (lw_at lw_m7 31 rfl) rfl
theorem q1727 : (Jvm.Cond.static ({ cls := "java/lang/StringUTF16", name := "putCharSB", desc := "([BII)V" } : Jvm.MethodName)) ∈ lw_all := lw_g (lw_at lw_m7 33 rfl) rfl
theorem q1728 : (Jvm.Cond.code ({ cls := "java/lang/StringUTF16", name := "putCharSB", desc := "([BII)V" } : Jvm.MethodName) prog_40_method_71_code (3 : Nat) (Option.none : Option Jvm.ClassFile.FieldType)) ∈ lw_all := lw_g (lw_at lw_m7 34 rfl) rfl
theorem q1919 : (Jvm.Cond.static ({ cls := "java/lang/StringUTF16", name := "indexOf", desc := "([BIII)I" } : Jvm.MethodName)) ∈ lw_all := lw_g (lw_at lw_m7 225 rfl) rfl
theorem q1920 : (Jvm.Cond.code ({ cls := "java/lang/StringUTF16", name := "indexOf", desc := "([BIII)I" } : Jvm.MethodName) prog_40_method_40_code (4 : Nat) (Option.some Jvm.ClassFile.FieldType.int)) ∈ lw_all := lw_g (lw_at lw_m7 226 rfl) rfl
theorem q1921 : (Jvm.Cond.methodLink "java/lang/StringUTF16" (224 : Nat) ({ cls := "java/lang/Math", name := "max", desc := "(II)I" } : Jvm.MethodName)) ∈ lw_all := lw_g (lw_at lw_m7 227 rfl) rfl
theorem q1922 : (Jvm.Cond.constant "java/lang/StringUTF16" (227 : Nat) (65536 : Int32)) ∈ lw_all := lw_g (lw_at lw_m7 228 rfl) rfl
theorem q1923 : (Jvm.Cond.methodLink "java/lang/StringUTF16" (228 : Nat) ({ cls := "java/lang/StringUTF16", name := "indexOfChar", desc := "([BIII)I" } : Jvm.MethodName)) ∈ lw_all := lw_g (lw_at lw_m7 229 rfl) rfl
theorem q1924 : (Jvm.Cond.static ({ cls := "java/lang/StringUTF16", name := "indexOfChar", desc := "([BIII)I" } : Jvm.MethodName)) ∈ lw_all := lw_g (lw_at lw_m7 230 rfl) rfl
theorem q1925 : (Jvm.Cond.code ({ cls := "java/lang/StringUTF16", name := "indexOfChar", desc := "([BIII)I" } : Jvm.MethodName) prog_40_method_47_code (4 : Nat) (Option.some Jvm.ClassFile.FieldType.int)) ∈ lw_all := lw_g (lw_at lw_m7 231 rfl) rfl
theorem q1926 : (Jvm.Cond.methodLink "java/lang/StringUTF16" (96 : Nat) ({ cls := "java/lang/StringUTF16", name := "checkBoundsBeginEnd", desc := "(II[B)V" } : Jvm.MethodName)) ∈ lw_all := lw_g (lw_at lw_m7 232 rfl) rfl
theorem q1927 : (Jvm.Cond.static ({ cls := "java/lang/StringUTF16", name := "checkBoundsBeginEnd", desc := "(II[B)V" } : Jvm.MethodName)) ∈ lw_all := lw_g (lw_at lw_m7 233 rfl) rfl
theorem q1928 : (Jvm.Cond.code ({ cls := "java/lang/StringUTF16", name := "checkBoundsBeginEnd", desc := "(II[B)V" } : Jvm.MethodName) prog_40_method_93_code (3 : Nat) (Option.none : Option Jvm.ClassFile.FieldType)) ∈ lw_all := lw_g (lw_at lw_m7 234 rfl) rfl
theorem q1929 : (Jvm.Cond.methodLink "java/lang/StringUTF16" (241 : Nat) ({ cls := "java/lang/String", name := "checkBoundsBeginEnd", desc := "(III)V" } : Jvm.MethodName)) ∈ lw_all := lw_g (lw_at lw_m7 235 rfl) rfl
theorem q1930 : (Jvm.Cond.methodLink "java/lang/StringUTF16" (244 : Nat) ({ cls := "java/lang/StringUTF16", name := "indexOfCharUnsafe", desc := "([BIII)I" } : Jvm.MethodName)) ∈ lw_all := lw_g (lw_at lw_m7 236 rfl) rfl
theorem q1931 : (Jvm.Cond.static ({ cls := "java/lang/StringUTF16", name := "indexOfCharUnsafe", desc := "([BIII)I" } : Jvm.MethodName)) ∈ lw_all := lw_g (lw_at lw_m7 237 rfl) rfl
theorem q1932 : (Jvm.Cond.code ({ cls := "java/lang/StringUTF16", name := "indexOfCharUnsafe", desc := "([BIII)I" } : Jvm.MethodName) prog_40_method_48_code (5 : Nat) (Option.some Jvm.ClassFile.FieldType.int)) ∈ lw_all := lw_g (lw_at lw_m7 238 rfl) rfl
theorem q1933 : (Jvm.Cond.methodLink "java/lang/StringUTF16" (232 : Nat) ({ cls := "java/lang/StringUTF16", name := "indexOfSupplementary", desc := "([BIII)I" } : Jvm.MethodName)) ∈ lw_all := lw_g (lw_at lw_m7 239 rfl) rfl
theorem q1934 : (Jvm.Cond.static ({ cls := "java/lang/StringUTF16", name := "indexOfSupplementary", desc := "([BIII)I" } : Jvm.MethodName)) ∈ lw_all := lw_g (lw_at lw_m8 0 rfl) rfl
theorem q1935 : (Jvm.Cond.code ({ cls := "java/lang/StringUTF16", name := "indexOfSupplementary", desc := "([BIII)I" } : Jvm.MethodName) prog_40_method_49_code (7 : Nat) (Option.some Jvm.ClassFile.FieldType.int)) ∈ lw_all := lw_g (lw_at lw_m8 1 rfl) rfl
theorem q1936 : (Jvm.Cond.methodLink "java/lang/StringUTF16" (164 : Nat) ({ cls := "java/lang/Character", name := "isValidCodePoint", desc := "(I)Z" } : Jvm.MethodName)) ∈ lw_all := lw_g (lw_at lw_m8 2 rfl) rfl
theorem q1939 : (Jvm.Cond.methodLink "java/lang/StringUTF16" (157 : Nat) ({ cls := "java/lang/Character", name := "highSurrogate", desc := "(I)C" } : Jvm.MethodName)) ∈ lw_all := lw_g (lw_at lw_m8 5 rfl) rfl
theorem q1943 : (Jvm.Cond.methodLink "java/lang/StringUTF16" (161 : Nat) ({ cls := "java/lang/Character", name := "lowSurrogate", desc := "(I)C" } : Jvm.MethodName)) ∈ lw_all := lw_g (lw_at lw_m8 9 rfl) rfl
/-! java/util/Arrays -/
set_option maxRecDepth 100000
def RJ6 : String := "java/util/Arrays"
abbrev cJ6_copyOfRange : ByteArray := prog_51_method_132_code
def yJ6_copyOfRange : MethodName := ⟨RJ6, "copyOfRange", "([BII)[B"⟩
abbrev cJ6_copyOfRangeByte : ByteArray := prog_51_method_133_code
def yJ6_copyOfRangeByte : MethodName := ⟨RJ6, "copyOfRangeByte", "([BII)[B"⟩
abbrev cJ6_checkLength : ByteArray := prog_51_method_131_code
def yJ6_checkLength : MethodName := ⟨RJ6, "checkLength", "(II)V"⟩
abbrev cJ6_copyOf : ByteArray := prog_51_method_119_code
def yJ6_copyOf : MethodName := ⟨RJ6, "copyOf", "([Ljava/lang/Object;I)[Ljava/lang/Object;"⟩
abbrev cJ6_copyOf_2 : ByteArray := prog_51_method_120_code
def yJ6_copyOf_2 : MethodName := ⟨RJ6, "copyOf", "([Ljava/lang/Object;ILjava/lang/Class;)[Ljava/lang/Object;"⟩
abbrev cJ6_copyOf_3 : ByteArray := prog_51_method_121_code
def yJ6_copyOf_3 : MethodName := ⟨RJ6, "copyOf", "([BI)[B"⟩
abbrev cJ6_fill : ByteArray := prog_51_method_110_code
def yJ6_fill : MethodName := ⟨RJ6, "fill", "([BIIB)V"⟩
abbrev cJ6_rangeCheck : ByteArray := prog_51_method_30_code
def yJ6_rangeCheck : MethodName := ⟨RJ6, "rangeCheck", "(III)V"⟩
theorem q266 : (Jvm.Cond.initialized "java/util/Arrays") ∈ lw_all := lw_g (lw_at lw_m1 12 rfl) rfl
theorem q553 : (Jvm.Cond.static ({ cls := "java/util/Arrays", name := "copyOfRange", desc := "([BII)[B" } : Jvm.MethodName)) ∈ lw_all := lw_g (lw_at lw_m2 59 rfl) rfl
theorem q554 : (Jvm.Cond.code ({ cls := "java/util/Arrays", name := "copyOfRange", desc := "([BII)[B" } : Jvm.MethodName) prog_51_method_132_code (3 : Nat) (Option.some (Jvm.ClassFile.FieldType.array Jvm.ClassFile.FieldType.byte))) ∈ lw_all := lw_g (lw_at lw_m2 60 rfl) rfl
theorem q555 : (Jvm.Cond.methodLink "java/util/Arrays" (339 : Nat) ({ cls := "java/util/Arrays", name := "copyOfRangeByte", desc := "([BII)[B" } : Jvm.MethodName)) ∈ lw_all := lw_g (lw_at lw_m2 61 rfl) rfl
theorem q556 : (Jvm.Cond.static ({ cls := "java/util/Arrays", name := "copyOfRangeByte", desc := "([BII)[B" } : Jvm.MethodName)) ∈ lw_all := lw_g (lw_at lw_m2 62 rfl) rfl
theorem q557 : (Jvm.Cond.code ({ cls := "java/util/Arrays", name := "copyOfRangeByte", desc := "([BII)[B" } : Jvm.MethodName) prog_51_method_133_code (5 : Nat) (Option.some (Jvm.ClassFile.FieldType.array Jvm.ClassFile.FieldType.byte))) ∈ lw_all := lw_g (lw_at lw_m2 63 rfl) rfl
theorem q558 : (Jvm.Cond.methodLink "java/util/Arrays" (343 : Nat) ({ cls := "java/util/Arrays", name := "checkLength", desc := "(II)V" } : Jvm.MethodName)) ∈ lw_all := lw_g (lw_at lw_m2 64 rfl) rfl
theorem q559 : (Jvm.Cond.static ({ cls := "java/util/Arrays", name := "checkLength", desc := "(II)V" } : Jvm.MethodName)) ∈ lw_all := lw_g (lw_at lw_m2 65 rfl) rfl
theorem q560 : (Jvm.Cond.code ({ cls := "java/util/Arrays", name := "checkLength", desc := "(II)V" } : Jvm.MethodName) prog_51_method_131_code (2 : Nat) (Option.none : Option Jvm.ClassFile.FieldType)) ∈ lw_all := lw_g (lw_at lw_m2 66 rfl) rfl
theorem q561 : (Jvm.Cond.methodLink "java/util/Arrays" (304 : Nat) ({ cls := "java/lang/Math", name := "min", desc := "(II)I" } : Jvm.MethodName)) ∈ lw_all := lw_g (lw_at lw_m2 67 rfl) rfl
theorem q564 : (Jvm.Cond.methodLink "java/util/Arrays" (150 : Nat) ({ cls := "java/lang/System", name := "arraycopy", desc := "(Ljava/lang/Object;ILjava/lang/Object;II)V" } : Jvm.MethodName)) ∈ lw_all := lw_g (lw_at lw_m2 70 rfl) rfl
theorem q567 : (Jvm.Cond.methodLink "java/util/Arrays" (310 : Nat) ({ cls := "[B", name := "clone", desc := "()Ljava/lang/Object;" } : Jvm.MethodName)) ∈ lw_all := lw_g (lw_at lw_m2 73 rfl) rfl
theorem q573 : (Jvm.Cond.classLink "java/util/Arrays" (311 : Nat) "[B") ∈ lw_all := lw_g (lw_at lw_m2 79 rfl) rfl
theorem q1456 : (Jvm.Cond.static ({ cls := "java/util/Arrays", name := "copyOf", desc := "([Ljava/lang/Object;I)[Ljava/lang/Object;" } : Jvm.MethodName)) ∈ lw_all := lw_g (lw_at lw_m6 2 rfl) rfl
theorem q1457 : (Jvm.Cond.code ({ cls := "java/util/Arrays", name := "copyOf", desc := "([Ljava/lang/Object;I)[Ljava/lang/Object;" } : Jvm.MethodName) prog_51_method_119_code (2 : Nat) (Option.some (Jvm.ClassFile.FieldType.array (Jvm.ClassFile.FieldType.object "java/lang/Object")))) ∈ lw_all := lw_g (lw_at lw_m6 3 rfl) rfl
theorem q1458 : (Jvm.Cond.methodLink "java/util/Arrays" (86 : Nat) ({ cls := "java/lang/Object", name := "getClass", desc := "()Ljava/lang/Class;" } : Jvm.MethodName)) ∈ lw_all := lw_g (lw_at lw_m6 4 rfl) rfl
theorem q1459 : (Jvm.Cond.methodLink "java/util/Arrays" (300 : Nat) ({ cls := "java/util/Arrays", name := "copyOf", desc := "([Ljava/lang/Object;ILjava/lang/Class;)[Ljava/lang/Object;" } : Jvm.MethodName)) ∈ lw_all := lw_g (lw_at lw_m6 5 rfl) rfl
theorem q1460 : (Jvm.Cond.static ({ cls := "java/util/Arrays", name := "copyOf", desc := "([Ljava/lang/Object;ILjava/lang/Class;)[Ljava/lang/Object;" } : Jvm.MethodName)) ∈ lw_all := lw_g (lw_at lw_m6 6 rfl) rfl
theorem q1461 : (Jvm.Cond.code ({ cls := "java/util/Arrays", name := "copyOf", desc := "([Ljava/lang/Object;ILjava/lang/Class;)[Ljava/lang/Object;" } : Jvm.MethodName) prog_51_method_120_code (4 : Nat) (Option.some (Jvm.ClassFile.FieldType.array (Jvm.ClassFile.FieldType.object "java/lang/Object")))) ∈ lw_all := lw_g (lw_at lw_m6 7 rfl) rfl
theorem q1462 : (Jvm.Cond.classLink "java/util/Arrays" (110 : Nat) "[Ljava/lang/Object;") ∈ lw_all := lw_g (lw_at lw_m6 8 rfl) rfl
theorem q1464 : (Jvm.Cond.classLink "java/util/Arrays" (2 : Nat) "java/lang/Object") ∈ lw_all := lw_g (lw_at lw_m6 10 rfl) rfl
theorem q1685 : (Jvm.Cond.static ({ cls := "java/util/Arrays", name := "copyOf", desc := "([BI)[B" } : Jvm.MethodName)) ∈ lw_all := lw_g (lw_at lw_m6 231 rfl) rfl
theorem q1686 : (Jvm.Cond.code ({ cls := "java/util/Arrays", name := "copyOf", desc := "([BI)[B" } : Jvm.MethodName) prog_51_method_121_code (3 : Nat) (Option.some (Jvm.ClassFile.FieldType.array Jvm.ClassFile.FieldType.byte))) ∈ lw_all := lw_g (lw_at lw_m6 232 rfl) rfl
theorem q1691 : (Jvm.Cond.static ({ cls := "java/util/Arrays", name := "fill", desc := "([BIIB)V" } : Jvm.MethodName)) ∈ lw_all := lw_g (lw_at lw_m6 237 rfl) rfl
theorem q1692 : (Jvm.Cond.code ({ cls := "java/util/Arrays", name := "fill", desc := "([BIIB)V" } : Jvm.MethodName) prog_51_method_110_code (5 : Nat) (Option.none : Option Jvm.ClassFile.FieldType)) ∈ lw_all := lw_g (lw_at lw_m6 238 rfl) rfl
theorem q1693 : (Jvm.Cond.methodLink "java/util/Arrays" (13 : Nat) ({ cls := "java/util/Arrays", name := "rangeCheck", desc := "(III)V" } : Jvm.MethodName)) ∈ lw_all := lw_g (lw_at lw_m6 239 rfl) rfl
theorem q1694 : (Jvm.Cond.static ({ cls := "java/util/Arrays", name := "rangeCheck", desc := "(III)V" } : Jvm.MethodName)) ∈ lw_all := lw_g (lw_at lw_m7 0 rfl) rfl
theorem q1695 : (Jvm.Cond.code ({ cls := "java/util/Arrays", name := "rangeCheck", desc := "(III)V" } : Jvm.MethodName) prog_51_method_30_code (3 : Nat) (Option.none : Option Jvm.ClassFile.FieldType)) ∈ lw_all := lw_g (lw_at lw_m7 1 rfl) rfl
/-! java/lang/Math -/
set_option maxRecDepth 100000
def RJ7 : String := "java/lang/Math"
abbrev cJ7_min : ByteArray := prog_34_method_69_code
def yJ7_min : MethodName := ⟨RJ7, "min", "(II)I"⟩
abbrev cJ7_max : ByteArray := prog_34_method_65_code
def yJ7_max : MethodName := ⟨RJ7, "max", "(II)I"⟩
abbrev cJ7_abs : ByteArray := prog_34_method_59_code
def yJ7_abs : MethodName := ⟨RJ7, "abs", "(I)I"⟩
theorem q267 : (Jvm.Cond.initialized "java/lang/Math") ∈ lw_all := lw_g (lw_at lw_m1 13 rfl) rfl
theorem q562 : (Jvm.Cond.static ({ cls := "java/lang/Math", name := "min", desc := "(II)I" } : Jvm.MethodName)) ∈ lw_all := lw_g (lw_at lw_m2 68 rfl) rfl
theorem q563 : (Jvm.Cond.code ({ cls := "java/lang/Math", name := "min", desc := "(II)I" } : Jvm.MethodName) prog_34_method_69_code (2 : Nat) (Option.some Jvm.ClassFile.FieldType.int)) ∈ lw_all := lw_g (lw_at lw_m2 69 rfl) rfl
theorem q1449 : (Jvm.Cond.static ({ cls := "java/lang/Math", name := "max", desc := "(II)I" } : Jvm.MethodName)) ∈ lw_all := lw_g (lw_at lw_m5 235 rfl) rfl
theorem q1450 : (Jvm.Cond.code ({ cls := "java/lang/Math", name := "max", desc := "(II)I" } : Jvm.MethodName) prog_34_method_65_code (2 : Nat) (Option.some Jvm.ClassFile.FieldType.int)) ∈ lw_all := lw_g (lw_at lw_m5 236 rfl) rfl
theorem q3007 : (Jvm.Cond.static ({ cls := "java/lang/Math", name := "abs", desc := "(I)I" } : Jvm.MethodName)) ∈ lw_all := lw_g (lw_at lw_m12 113 rfl) rfl
theorem q3008 : (Jvm.Cond.code ({ cls := "java/lang/Math", name := "abs", desc := "(I)I" } : Jvm.MethodName) prog_34_method_59_code (1 : Nat) (Option.some Jvm.ClassFile.FieldType.int)) ∈ lw_all := lw_g (lw_at lw_m12 114 rfl) rfl
/-! java/lang/Enum -/
set_option maxRecDepth 100000
def RJ8 : String := "java/lang/Enum"
abbrev cJ8_hashCode : ByteArray := prog_28_method_6_code
def yJ8_hashCode : MethodName := ⟨RJ8, "hashCode", "()I"⟩
abbrev cJ8_compareTo : ByteArray := prog_28_method_15_code
def yJ8_compareTo : MethodName := ⟨RJ8, "compareTo", "(Ljava/lang/Object;)I"⟩
abbrev cJ8_compareTo_2 : ByteArray := prog_28_method_8_code
def yJ8_compareTo_2 : MethodName := ⟨RJ8, "compareTo", "(Ljava/lang/Enum;)I"⟩
abbrev cJ8_getDeclaringClass : ByteArray := prog_28_method_9_code
def yJ8_getDeclaringClass : MethodName := ⟨RJ8, "getDeclaringClass", "()Ljava/lang/Class;"⟩
abbrev cJ8_equals : ByteArray := prog_28_method_5_code
def yJ8_equals : MethodName := ⟨RJ8, "equals", "(Ljava/lang/Object;)Z"⟩
abbrev cJ8_ordinal : ByteArray := prog_28_method_2_code
def yJ8_ordinal : MethodName := ⟨RJ8, "ordinal", "()I"⟩
theorem q270 : (Jvm.Cond.initialized "java/lang/Enum") ∈ lw_all := lw_g (lw_at lw_m1 16 rfl) rfl
theorem q680 : (Jvm.Cond.instanceMethod ({ cls := "java/lang/Enum", name := "hashCode", desc := "()I" } : Jvm.MethodName)) ∈ lw_all := lw_g (lw_at lw_m2 186 rfl) rfl
theorem q681 : (Jvm.Cond.code ({ cls := "java/lang/Enum", name := "hashCode", desc := "()I" } : Jvm.MethodName) prog_28_method_6_code (2 : Nat) (Option.some Jvm.ClassFile.FieldType.int)) ∈ lw_all := lw_g (lw_at lw_m2 187 rfl) rfl
theorem q682 : (Jvm.Cond.methodLink "java/lang/Enum" (20 : Nat) ({ cls := "java/lang/System", name := "identityHashCode", desc := "(Ljava/lang/Object;)I" } : Jvm.MethodName)) ∈ lw_all := lw_g (lw_at lw_m2 188 rfl) rfl
theorem q867 : (Jvm.Cond.instanceMethod ({ cls := "java/lang/Enum", name := "compareTo", desc := "(Ljava/lang/Object;)I" } : Jvm.MethodName)) ∈ lw_all := lw_g (lw_at lw_m3 133 rfl) rfl
theorem q868 : (Jvm.Cond.publicMethod ({ cls := "java/lang/Enum", name := "compareTo", desc := "(Ljava/lang/Object;)I" } : Jvm.MethodName)) ∈ lw_tbl := lw_at lw_m3 134 rfl
theorem q869 : (Jvm.Cond.code ({ cls := "java/lang/Enum", name := "compareTo", desc := "(Ljava/lang/Object;)I" } : Jvm.MethodName) prog_28_method_15_code (2 : Nat) (Option.some Jvm.ClassFile.FieldType.int)) ∈ lw_all := lw_g (lw_at lw_m3 135 rfl) rfl
theorem q870 : (Jvm.Cond.classLink "java/lang/Enum" (2 : Nat) "java/lang/Enum") ∈ lw_all := lw_g (lw_at lw_m3 136 rfl) rfl
theorem q871 : (Jvm.Cond.methodLink "java/lang/Enum" (101 : Nat) ({ cls := "java/lang/Enum", name := "compareTo", desc := "(Ljava/lang/Enum;)I" } : Jvm.MethodName)) ∈ lw_all := lw_g (lw_at lw_m3 137 rfl) rfl
theorem q872 : (Jvm.Cond.instanceMethod ({ cls := "java/lang/Enum", name := "compareTo", desc := "(Ljava/lang/Enum;)I" } : Jvm.MethodName)) ∈ lw_all := lw_g (lw_at lw_m3 138 rfl) rfl
theorem q873 : (Jvm.Cond.sameMethod "java/lang/Enum" "java/lang/Enum" "compareTo" "(Ljava/lang/Enum;)I") ∈ lw_all := lw_g (lw_at lw_m3 139 rfl) rfl
theorem q876 : (Jvm.Cond.code ({ cls := "java/lang/Enum", name := "compareTo", desc := "(Ljava/lang/Enum;)I" } : Jvm.MethodName) prog_28_method_8_code (4 : Nat) (Option.some Jvm.ClassFile.FieldType.int)) ∈ lw_all := lw_g (lw_at lw_m3 142 rfl) rfl
theorem q877 : (Jvm.Cond.methodLink "java/lang/Enum" (29 : Nat) ({ cls := "java/lang/Object", name := "getClass", desc := "()Ljava/lang/Class;" } : Jvm.MethodName)) ∈ lw_all := lw_g (lw_at lw_m3 143 rfl) rfl
theorem q878 : (Jvm.Cond.methodLink "java/lang/Enum" (33 : Nat) ({ cls := "java/lang/Enum", name := "getDeclaringClass", desc := "()Ljava/lang/Class;" } : Jvm.MethodName)) ∈ lw_all := lw_g (lw_at lw_m3 144 rfl) rfl
theorem q879 : (Jvm.Cond.instanceMethod ({ cls := "java/lang/Enum", name := "getDeclaringClass", desc := "()Ljava/lang/Class;" } : Jvm.MethodName)) ∈ lw_all := lw_g (lw_at lw_m3 145 rfl) rfl
theorem q880 : (Jvm.Cond.sameMethod "java/lang/Enum" "java/lang/Enum" "getDeclaringClass" "()Ljava/lang/Class;") ∈ lw_all := lw_g (lw_at lw_m3 146 rfl) rfl
theorem q883 : (Jvm.Cond.code ({ cls := "java/lang/Enum", name := "getDeclaringClass", desc := "()Ljava/lang/Class;" } : Jvm.MethodName) prog_28_method_9_code (3 : Nat) (Option.some (Jvm.ClassFile.FieldType.object "java/lang/Class"))) ∈ lw_all := lw_g (lw_at lw_m3 149 rfl) rfl
theorem q1114 : (Jvm.Cond.instanceMethod ({ cls := "java/lang/Enum", name := "equals", desc := "(Ljava/lang/Object;)Z" } : Jvm.MethodName)) ∈ lw_all := lw_g (lw_at lw_m4 140 rfl) rfl
theorem q1115 : (Jvm.Cond.code ({ cls := "java/lang/Enum", name := "equals", desc := "(Ljava/lang/Object;)Z" } : Jvm.MethodName) prog_28_method_5_code (2 : Nat) (Option.some Jvm.ClassFile.FieldType.boolean)) ∈ lw_all := lw_g (lw_at lw_m4 141 rfl) rfl
theorem q2623 : (Jvm.Cond.declares ({ cls := "java/lang/Enum", name := "ordinal", desc := "()I" } : Jvm.MethodName)) ∈ lw_tbl := lw_at lw_m10 209 rfl
theorem q2625 : (Jvm.Cond.instanceMethod ({ cls := "java/lang/Enum", name := "ordinal", desc := "()I" } : Jvm.MethodName)) ∈ lw_all := lw_g (lw_at lw_m10 211 rfl) rfl
theorem q2626 : (Jvm.Cond.code ({ cls := "java/lang/Enum", name := "ordinal", desc := "()I" } : Jvm.MethodName) prog_28_method_2_code (1 : Nat) (Option.some Jvm.ClassFile.FieldType.int)) ∈ lw_all := lw_g (lw_at lw_m10 212 rfl) rfl
theorem q4371 : (Jvm.Cond.fieldLink "java/lang/Enum" (17 : Nat) "java/lang/Enum" "hash" "I") ∈ lw_all := lw_g (lw_at lw_m18 37 rfl) rfl
theorem q4372 : (Jvm.Cond.fieldLink "java/lang/Enum" (7 : Nat) "java/lang/Enum" "ordinal" "I") ∈ lw_all := lw_g (lw_at lw_m18 38 rfl) rfl
/-! java/lang/Number -/
set_option maxRecDepth 100000
def RJ9 : String := "java/lang/Number"
abbrev cJ9_init : ByteArray := prog_35_method_1_code
def yJ9_init : MethodName := ⟨RJ9, "<init>", "()V"⟩
theorem q272 : (Jvm.Cond.initialized "java/lang/Number") ∈ lw_all := lw_g (lw_at lw_m1 18 rfl) rfl
theorem q2744 : (Jvm.Cond.instanceMethod ({ cls := "java/lang/Number", name := "<init>", desc := "()V" } : Jvm.MethodName)) ∈ lw_all := lw_g (lw_at lw_m11 90 rfl) rfl
theorem q2745 : (Jvm.Cond.code ({ cls := "java/lang/Number", name := "<init>", desc := "()V" } : Jvm.MethodName) prog_35_method_1_code (1 : Nat) (Option.none : Option Jvm.ClassFile.FieldType)) ∈ lw_all := lw_g (lw_at lw_m11 91 rfl) rfl
theorem q2746 : (Jvm.Cond.methodLink "java/lang/Number" (1 : Nat) ({ cls := "java/lang/Object", name := "<init>", desc := "()V" } : Jvm.MethodName)) ∈ lw_all := lw_g (lw_at lw_m11 92 rfl) rfl
/-! java/lang/Integer -/
set_option maxRecDepth 100000
def RJ10 : String := "java/lang/Integer"
def TJ10 : u_T := fun k => match k with
  | _ => ("java/lang/Integer", "value", "I", true)
def tyJ10 : Nat → FieldType := fun k => match k with
  | _ => .int
abbrev wsJ100 : List Cond := u_ws RJ10 TJ10 1
theorem nmJ10 : ∀ a, a < 1 → ∀ b, b < 1 → a ≠ b → (TJ10 a).2.1 ≠ (TJ10 b).2.1 := by decide +kernel
theorem tyJ10_ok : ∀ k, k < 1 → parseFieldDescriptor (TJ10 k).2.2.1 = some (tyJ10 k) := by decide +kernel
abbrev cJ10_hashCode : ByteArray := prog_30_method_32_code
def yJ10_hashCode : MethodName := ⟨RJ10, "hashCode", "()I"⟩
abbrev cJ10_hashCode_2 : ByteArray := prog_30_method_33_code
def yJ10_hashCode_2 : MethodName := ⟨RJ10, "hashCode", "(I)I"⟩
abbrev cJ10_compareTo : ByteArray := prog_30_method_63_code
def yJ10_compareTo : MethodName := ⟨RJ10, "compareTo", "(Ljava/lang/Object;)I"⟩
abbrev cJ10_compareTo_2 : ByteArray := prog_30_method_39_code
def yJ10_compareTo_2 : MethodName := ⟨RJ10, "compareTo", "(Ljava/lang/Integer;)I"⟩
abbrev cJ10_compare : ByteArray := prog_30_method_40_code
def yJ10_compare : MethodName := ⟨RJ10, "compare", "(II)I"⟩
abbrev cJ10_numberOfLeadingZeros : ByteArray := prog_30_method_47_code
def yJ10_numberOfLeadingZeros : MethodName := ⟨RJ10, "numberOfLeadingZeros", "(I)I"⟩
abbrev cJ10_numberOfTrailingZeros : ByteArray := prog_30_method_48_code
def yJ10_numberOfTrailingZeros : MethodName := ⟨RJ10, "numberOfTrailingZeros", "(I)I"⟩
abbrev cJ10_equals : ByteArray := prog_30_method_34_code
def yJ10_equals : MethodName := ⟨RJ10, "equals", "(Ljava/lang/Object;)Z"⟩
abbrev cJ10_intValue : ByteArray := prog_30_method_27_code
def yJ10_intValue : MethodName := ⟨RJ10, "intValue", "()I"⟩
abbrev cJ10_bitCount : ByteArray := prog_30_method_49_code
def yJ10_bitCount : MethodName := ⟨RJ10, "bitCount", "(I)I"⟩
abbrev cJ10_valueOf : ByteArray := prog_30_method_22_code
def yJ10_valueOf : MethodName := ⟨RJ10, "valueOf", "(I)Ljava/lang/Integer;"⟩
abbrev cJ10_init : ByteArray := prog_30_method_23_code
def yJ10_init : MethodName := ⟨RJ10, "<init>", "(I)V"⟩
theorem q273 : (Jvm.Cond.initialized "java/lang/Integer") ∈ lw_all := lw_g (lw_at lw_m1 19 rfl) rfl
theorem q699 : (Jvm.Cond.selects "java/lang/Integer" ({ cls := "java/lang/Object", name := "hashCode", desc := "()I" } : Jvm.MethodName) ({ cls := "java/lang/Integer", name := "hashCode", desc := "()I" } : Jvm.MethodName)) ∈ lw_all := lw_g (lw_at lw_m2 205 rfl) rfl
theorem q700 : (Jvm.Cond.instanceMethod ({ cls := "java/lang/Integer", name := "hashCode", desc := "()I" } : Jvm.MethodName)) ∈ lw_all := lw_g (lw_at lw_m2 206 rfl) rfl
theorem q701 : (Jvm.Cond.code ({ cls := "java/lang/Integer", name := "hashCode", desc := "()I" } : Jvm.MethodName) prog_30_method_32_code (1 : Nat) (Option.some Jvm.ClassFile.FieldType.int)) ∈ lw_all := lw_g (lw_at lw_m2 207 rfl) rfl
theorem q702 : (Jvm.Cond.methodLink "java/lang/Integer" (208 : Nat) ({ cls := "java/lang/Integer", name := "hashCode", desc := "(I)I" } : Jvm.MethodName)) ∈ lw_all := lw_g (lw_at lw_m2 208 rfl) rfl
theorem q703 : (Jvm.Cond.static ({ cls := "java/lang/Integer", name := "hashCode", desc := "(I)I" } : Jvm.MethodName)) ∈ lw_all := lw_g (lw_at lw_m2 209 rfl) rfl
theorem q704 : (Jvm.Cond.code ({ cls := "java/lang/Integer", name := "hashCode", desc := "(I)I" } : Jvm.MethodName) prog_30_method_33_code (1 : Nat) (Option.some Jvm.ClassFile.FieldType.int)) ∈ lw_all := lw_g (lw_at lw_m2 210 rfl) rfl
theorem q844 : (Jvm.Cond.selects "java/lang/Integer" ({ cls := "java/lang/Object", name := "getClass", desc := "()Ljava/lang/Class;" } : Jvm.MethodName) ({ cls := "java/lang/Object", name := "getClass", desc := "()Ljava/lang/Class;" } : Jvm.MethodName)) ∈ lw_all := lw_g (lw_at lw_m3 110 rfl) rfl
theorem q887 : (Jvm.Cond.castable "java/lang/Integer" "java/lang/Comparable") ∈ lw_tbl := lw_at lw_m3 153 rfl
theorem q888 : (Jvm.Cond.selects "java/lang/Integer" ({ cls := "java/lang/Comparable", name := "compareTo", desc := "(Ljava/lang/Object;)I" } : Jvm.MethodName) ({ cls := "java/lang/Integer", name := "compareTo", desc := "(Ljava/lang/Object;)I" } : Jvm.MethodName)) ∈ lw_all := lw_g (lw_at lw_m3 154 rfl) rfl
theorem q889 : (Jvm.Cond.unhidden "java/lang/Integer" "compareTo" "(Ljava/lang/Object;)I") ∈ lw_tbl := lw_at lw_m3 155 rfl
theorem q890 : (Jvm.Cond.instanceMethod ({ cls := "java/lang/Integer", name := "compareTo", desc := "(Ljava/lang/Object;)I" } : Jvm.MethodName)) ∈ lw_all := lw_g (lw_at lw_m3 156 rfl) rfl
theorem q891 : (Jvm.Cond.publicMethod ({ cls := "java/lang/Integer", name := "compareTo", desc := "(Ljava/lang/Object;)I" } : Jvm.MethodName)) ∈ lw_tbl := lw_at lw_m3 157 rfl
theorem q892 : (Jvm.Cond.code ({ cls := "java/lang/Integer", name := "compareTo", desc := "(Ljava/lang/Object;)I" } : Jvm.MethodName) prog_30_method_63_code (2 : Nat) (Option.some Jvm.ClassFile.FieldType.int)) ∈ lw_all := lw_g (lw_at lw_m3 158 rfl) rfl
theorem q893 : (Jvm.Cond.classLink "java/lang/Integer" (1 : Nat) "java/lang/Integer") ∈ lw_all := lw_g (lw_at lw_m3 159 rfl) rfl
theorem q894 : (Jvm.Cond.methodLink "java/lang/Integer" (284 : Nat) ({ cls := "java/lang/Integer", name := "compareTo", desc := "(Ljava/lang/Integer;)I" } : Jvm.MethodName)) ∈ lw_all := lw_g (lw_at lw_m3 160 rfl) rfl
theorem q895 : (Jvm.Cond.instanceMethod ({ cls := "java/lang/Integer", name := "compareTo", desc := "(Ljava/lang/Integer;)I" } : Jvm.MethodName)) ∈ lw_all := lw_g (lw_at lw_m3 161 rfl) rfl
theorem q896 : (Jvm.Cond.selects "java/lang/Integer" ({ cls := "java/lang/Integer", name := "compareTo", desc := "(Ljava/lang/Integer;)I" } : Jvm.MethodName) ({ cls := "java/lang/Integer", name := "compareTo", desc := "(Ljava/lang/Integer;)I" } : Jvm.MethodName)) ∈ lw_all := lw_g (lw_at lw_m3 162 rfl) rfl
theorem q897 : (Jvm.Cond.code ({ cls := "java/lang/Integer", name := "compareTo", desc := "(Ljava/lang/Integer;)I" } : Jvm.MethodName) prog_30_method_39_code (2 : Nat) (Option.some Jvm.ClassFile.FieldType.int)) ∈ lw_all := lw_g (lw_at lw_m3 163 rfl) rfl
theorem q898 : (Jvm.Cond.methodLink "java/lang/Integer" (259 : Nat) ({ cls := "java/lang/Integer", name := "compare", desc := "(II)I" } : Jvm.MethodName)) ∈ lw_all := lw_g (lw_at lw_m3 164 rfl) rfl
theorem q899 : (Jvm.Cond.static ({ cls := "java/lang/Integer", name := "compare", desc := "(II)I" } : Jvm.MethodName)) ∈ lw_all := lw_g (lw_at lw_m3 165 rfl) rfl
theorem q900 : (Jvm.Cond.code ({ cls := "java/lang/Integer", name := "compare", desc := "(II)I" } : Jvm.MethodName) prog_30_method_40_code (2 : Nat) (Option.some Jvm.ClassFile.FieldType.int)) ∈ lw_all := lw_g (lw_at lw_m3 166 rfl) rfl
theorem q991 : (Jvm.Cond.static ({ cls := "java/lang/Integer", name := "numberOfLeadingZeros", desc := "(I)I" } : Jvm.MethodName)) ∈ lw_all := lw_g (lw_at lw_m4 17 rfl) rfl
theorem q992 : (Jvm.Cond.code ({ cls := "java/lang/Integer", name := "numberOfLeadingZeros", desc := "(I)I" } : Jvm.MethodName) prog_30_method_47_code (2 : Nat) (Option.some Jvm.ClassFile.FieldType.int)) ∈ lw_all := lw_g (lw_at lw_m4 18 rfl) rfl
theorem q993 : (Jvm.Cond.constant "java/lang/Integer" (264 : Nat) (65536 : Int32)) ∈ lw_all := lw_g (lw_at lw_m4 19 rfl) rfl
theorem q1000 : (Jvm.Cond.static ({ cls := "java/lang/Integer", name := "numberOfTrailingZeros", desc := "(I)I" } : Jvm.MethodName)) ∈ lw_all := lw_g (lw_at lw_m4 26 rfl) rfl
theorem q1001 : (Jvm.Cond.code ({ cls := "java/lang/Integer", name := "numberOfTrailingZeros", desc := "(I)I" } : Jvm.MethodName) prog_30_method_48_code (2 : Nat) (Option.some Jvm.ClassFile.FieldType.int)) ∈ lw_all := lw_g (lw_at lw_m4 27 rfl) rfl
theorem q1130 : (Jvm.Cond.selects "java/lang/Integer" ({ cls := "java/lang/Object", name := "equals", desc := "(Ljava/lang/Object;)Z" } : Jvm.MethodName) ({ cls := "java/lang/Integer", name := "equals", desc := "(Ljava/lang/Object;)Z" } : Jvm.MethodName)) ∈ lw_all := lw_g (lw_at lw_m4 156 rfl) rfl
theorem q1131 : (Jvm.Cond.instanceMethod ({ cls := "java/lang/Integer", name := "equals", desc := "(Ljava/lang/Object;)Z" } : Jvm.MethodName)) ∈ lw_all := lw_g (lw_at lw_m4 157 rfl) rfl
theorem q1132 : (Jvm.Cond.code ({ cls := "java/lang/Integer", name := "equals", desc := "(Ljava/lang/Object;)Z" } : Jvm.MethodName) prog_30_method_34_code (2 : Nat) (Option.some Jvm.ClassFile.FieldType.boolean)) ∈ lw_all := lw_g (lw_at lw_m4 158 rfl) rfl
theorem q1133 : (Jvm.Cond.methodLink "java/lang/Integer" (211 : Nat) ({ cls := "java/lang/Integer", name := "intValue", desc := "()I" } : Jvm.MethodName)) ∈ lw_all := lw_g (lw_at lw_m4 159 rfl) rfl
theorem q1134 : (Jvm.Cond.instanceMethod ({ cls := "java/lang/Integer", name := "intValue", desc := "()I" } : Jvm.MethodName)) ∈ lw_all := lw_g (lw_at lw_m4 160 rfl) rfl
theorem q1135 : (Jvm.Cond.selects "java/lang/Integer" ({ cls := "java/lang/Integer", name := "intValue", desc := "()I" } : Jvm.MethodName) ({ cls := "java/lang/Integer", name := "intValue", desc := "()I" } : Jvm.MethodName)) ∈ lw_all := lw_g (lw_at lw_m4 161 rfl) rfl
theorem q1136 : (Jvm.Cond.code ({ cls := "java/lang/Integer", name := "intValue", desc := "()I" } : Jvm.MethodName) prog_30_method_27_code (1 : Nat) (Option.some Jvm.ClassFile.FieldType.int)) ∈ lw_all := lw_g (lw_at lw_m4 162 rfl) rfl
theorem q1381 : (Jvm.Cond.static ({ cls := "java/lang/Integer", name := "bitCount", desc := "(I)I" } : Jvm.MethodName)) ∈ lw_all := lw_g (lw_at lw_m5 167 rfl) rfl
theorem q1382 : (Jvm.Cond.code ({ cls := "java/lang/Integer", name := "bitCount", desc := "(I)I" } : Jvm.MethodName) prog_30_method_49_code (1 : Nat) (Option.some Jvm.ClassFile.FieldType.int)) ∈ lw_all := lw_g (lw_at lw_m5 168 rfl) rfl
theorem q1383 : (Jvm.Cond.constant "java/lang/Integer" (265 : Nat) (1431655765 : Int32)) ∈ lw_all := lw_g (lw_at lw_m5 169 rfl) rfl
theorem q1384 : (Jvm.Cond.constant "java/lang/Integer" (266 : Nat) (858993459 : Int32)) ∈ lw_all := lw_g (lw_at lw_m5 170 rfl) rfl
theorem q1385 : (Jvm.Cond.constant "java/lang/Integer" (267 : Nat) (252645135 : Int32)) ∈ lw_all := lw_g (lw_at lw_m5 171 rfl) rfl
theorem q2733 : (Jvm.Cond.static ({ cls := "java/lang/Integer", name := "valueOf", desc := "(I)Ljava/lang/Integer;" } : Jvm.MethodName)) ∈ lw_all := lw_g (lw_at lw_m11 79 rfl) rfl
theorem q2734 : (Jvm.Cond.code ({ cls := "java/lang/Integer", name := "valueOf", desc := "(I)Ljava/lang/Integer;" } : Jvm.MethodName) prog_30_method_22_code (1 : Nat) (Option.some (Jvm.ClassFile.FieldType.object "java/lang/Integer"))) ∈ lw_all := lw_g (lw_at lw_m11 80 rfl) rfl
theorem q2735 : (Jvm.Cond.fieldLink "java/lang/Integer" (191 : Nat) "java/lang/Integer$IntegerCache" "high" "I") ∈ lw_all := lw_g (lw_at lw_m11 81 rfl) rfl
theorem q2737 : (Jvm.Cond.fieldLink "java/lang/Integer" (195 : Nat) "java/lang/Integer$IntegerCache" "cache" "[Ljava/lang/Integer;") ∈ lw_all := lw_g (lw_at lw_m11 83 rfl) rfl
theorem q2739 : (Jvm.Cond.instantiable "java/lang/Integer" (1 : Nat)) ∈ lw_all := lw_g (lw_at lw_m11 85 rfl) rfl
theorem q2740 : (Jvm.Cond.methodLink "java/lang/Integer" (199 : Nat) ({ cls := "java/lang/Integer", name := "<init>", desc := "(I)V" } : Jvm.MethodName)) ∈ lw_all := lw_g (lw_at lw_m11 86 rfl) rfl
theorem q2741 : (Jvm.Cond.instanceMethod ({ cls := "java/lang/Integer", name := "<init>", desc := "(I)V" } : Jvm.MethodName)) ∈ lw_all := lw_g (lw_at lw_m11 87 rfl) rfl
theorem q2742 : (Jvm.Cond.code ({ cls := "java/lang/Integer", name := "<init>", desc := "(I)V" } : Jvm.MethodName) prog_30_method_23_code (2 : Nat) (Option.none : Option Jvm.ClassFile.FieldType)) ∈ lw_all := lw_g (lw_at lw_m11 88 rfl) rfl
theorem q2743 : (Jvm.Cond.methodLink "java/lang/Integer" (202 : Nat) ({ cls := "java/lang/Number", name := "<init>", desc := "()V" } : Jvm.MethodName)) ∈ lw_all := lw_g (lw_at lw_m11 89 rfl) rfl
theorem q2747 : (Jvm.Cond.fieldLink "java/lang/Integer" (205 : Nat) "java/lang/Integer" "value" "I") ∈ lw_all := lw_g (lw_at lw_m11 93 rfl) rfl
theorem q2748 : (Jvm.Cond.laysFinal "java/lang/Integer" "java/lang/Integer" "value" "I") ∈ lw_all := lw_g (lw_at lw_m11 94 rfl) rfl
theorem q2749 : (Jvm.Cond.soleField "java/lang/Integer" "value") ∈ lw_all := lw_g (lw_at lw_m11 95 rfl) rfl
theorem q2750 : (Jvm.Cond.superclass "java/lang/Integer" "java/lang/Number") ∈ lw_all := lw_g (lw_at lw_m11 96 rfl) rfl
theorem q4354 : (Jvm.Cond.castable "java/lang/Integer" "java/lang/Object") ∈ lw_tbl := lw_at lw_m18 20 rfl
theorem in_J10 : ∀ w ∈ wsJ100, w ∈ lw_all := lw_in wsJ100 [2748] (by decide +kernel) (by decide +kernel)
/-! jdk/internal/util/ArraysSupport -/
set_option maxRecDepth 100000
def RJ11 : String := "jdk/internal/util/ArraysSupport"
abbrev cJ11_vectorizedHashCode : ByteArray := prog_69_method_4_code
def yJ11_vectorizedHashCode : MethodName := ⟨RJ11, "vectorizedHashCode", "(Ljava/lang/Object;IIII)I"⟩
abbrev cJ11_signedHashCode : ByteArray := prog_69_method_5_code
def yJ11_signedHashCode : MethodName := ⟨RJ11, "signedHashCode", "(I[BII)I"⟩
abbrev cJ11_utf16hashCode : ByteArray := prog_69_method_10_code
def yJ11_utf16hashCode : MethodName := ⟨RJ11, "utf16hashCode", "(I[BII)I"⟩
abbrev cJ11_hashCode : ByteArray := prog_69_method_7_code
def yJ11_hashCode : MethodName := ⟨RJ11, "hashCode", "(I[CII)I"⟩
abbrev cJ11_hashCode_2 : ByteArray := prog_69_method_6_code
def yJ11_hashCode_2 : MethodName := ⟨RJ11, "hashCode", "(I[BII)I"⟩
abbrev cJ11_hashCode_3 : ByteArray := prog_69_method_8_code
def yJ11_hashCode_3 : MethodName := ⟨RJ11, "hashCode", "(I[SII)I"⟩
abbrev cJ11_hashCode_4 : ByteArray := prog_69_method_9_code
def yJ11_hashCode_4 : MethodName := ⟨RJ11, "hashCode", "(I[III)I"⟩
abbrev cJ11_mismatch : ByteArray := prog_69_method_13_code
def yJ11_mismatch : MethodName := ⟨RJ11, "mismatch", "([B[BI)I"⟩
abbrev cJ11_vectorizedMismatch : ByteArray := prog_69_method_3_code
def yJ11_vectorizedMismatch : MethodName := ⟨RJ11, "vectorizedMismatch", "(Ljava/lang/Object;JLjava/lang/Object;JII)I"⟩
abbrev cJ11_newLength : ByteArray := prog_69_method_27_code
def yJ11_newLength : MethodName := ⟨RJ11, "newLength", "(III)I"⟩
abbrev cJ11_hugeLength : ByteArray := prog_69_method_28_code
def yJ11_hugeLength : MethodName := ⟨RJ11, "hugeLength", "(II)I"⟩
theorem q274 : (Jvm.Cond.initialized "jdk/internal/util/ArraysSupport") ∈ lw_all := lw_g (lw_at lw_m1 20 rfl) rfl
theorem q712 : (Jvm.Cond.static ({ cls := "jdk/internal/util/ArraysSupport", name := "vectorizedHashCode", desc := "(Ljava/lang/Object;IIII)I" } : Jvm.MethodName)) ∈ lw_all := lw_g (lw_at lw_m2 218 rfl) rfl
theorem q713 : (Jvm.Cond.code ({ cls := "jdk/internal/util/ArraysSupport", name := "vectorizedHashCode", desc := "(Ljava/lang/Object;IIII)I" } : Jvm.MethodName) prog_69_method_4_code (5 : Nat) (Option.some Jvm.ClassFile.FieldType.int)) ∈ lw_all := lw_g (lw_at lw_m2 219 rfl) rfl
theorem q714 : (Jvm.Cond.classLink "jdk/internal/util/ArraysSupport" (60 : Nat) "[B") ∈ lw_all := lw_g (lw_at lw_m2 220 rfl) rfl
theorem q715 : (Jvm.Cond.methodLink "jdk/internal/util/ArraysSupport" (62 : Nat) ({ cls := "jdk/internal/util/ArraysSupport", name := "signedHashCode", desc := "(I[BII)I" } : Jvm.MethodName)) ∈ lw_all := lw_g (lw_at lw_m2 221 rfl) rfl
theorem q716 : (Jvm.Cond.static ({ cls := "jdk/internal/util/ArraysSupport", name := "signedHashCode", desc := "(I[BII)I" } : Jvm.MethodName)) ∈ lw_all := lw_g (lw_at lw_m2 222 rfl) rfl
theorem q717 : (Jvm.Cond.code ({ cls := "jdk/internal/util/ArraysSupport", name := "signedHashCode", desc := "(I[BII)I" } : Jvm.MethodName) prog_69_method_5_code (6 : Nat) (Option.some Jvm.ClassFile.FieldType.int)) ∈ lw_all := lw_g (lw_at lw_m2 223 rfl) rfl
theorem q718 : (Jvm.Cond.methodLink "jdk/internal/util/ArraysSupport" (66 : Nat) ({ cls := "jdk/internal/util/ArraysSupport", name := "utf16hashCode", desc := "(I[BII)I" } : Jvm.MethodName)) ∈ lw_all := lw_g (lw_at lw_m2 224 rfl) rfl
theorem q719 : (Jvm.Cond.static ({ cls := "jdk/internal/util/ArraysSupport", name := "utf16hashCode", desc := "(I[BII)I" } : Jvm.MethodName)) ∈ lw_all := lw_g (lw_at lw_m2 225 rfl) rfl
theorem q720 : (Jvm.Cond.code ({ cls := "jdk/internal/util/ArraysSupport", name := "utf16hashCode", desc := "(I[BII)I" } : Jvm.MethodName) prog_69_method_10_code (6 : Nat) (Option.some Jvm.ClassFile.FieldType.int)) ∈ lw_all := lw_g (lw_at lw_m2 226 rfl) rfl
theorem q721 : (Jvm.Cond.fieldLink "jdk/internal/util/ArraysSupport" (106 : Nat) "jdk/internal/util/ArraysSupport" "JLA" "Ljdk/internal/access/JavaLangAccess;") ∈ lw_all := lw_g (lw_at lw_m2 227 rfl) rfl
theorem q722 : (Jvm.Cond.laysStatic "jdk/internal/util/ArraysSupport" "JLA" "Ljdk/internal/access/JavaLangAccess;") ∈ lw_tbl := lw_at lw_m2 228 rfl
theorem q723 : (Jvm.Cond.interfaceEntry "jdk/internal/util/ArraysSupport" (110 : Nat)) ∈ lw_tbl := lw_at lw_m2 229 rfl
theorem q724 : (Jvm.Cond.methodLink "jdk/internal/util/ArraysSupport" (110 : Nat) ({ cls := "jdk/internal/access/JavaLangAccess", name := "getUTF16Char", desc := "([BI)C" } : Jvm.MethodName)) ∈ lw_all := lw_g (lw_at lw_m2 230 rfl) rfl
theorem q734 : (Jvm.Cond.classLink "jdk/internal/util/ArraysSupport" (69 : Nat) "[C") ∈ lw_all := lw_g (lw_at lw_m3 0 rfl) rfl
theorem q735 : (Jvm.Cond.methodLink "jdk/internal/util/ArraysSupport" (71 : Nat) ({ cls := "jdk/internal/util/ArraysSupport", name := "hashCode", desc := "(I[CII)I" } : Jvm.MethodName)) ∈ lw_all := lw_g (lw_at lw_m3 1 rfl) rfl
theorem q736 : (Jvm.Cond.static ({ cls := "jdk/internal/util/ArraysSupport", name := "hashCode", desc := "(I[CII)I" } : Jvm.MethodName)) ∈ lw_all := lw_g (lw_at lw_m3 2 rfl) rfl
theorem q737 : (Jvm.Cond.code ({ cls := "jdk/internal/util/ArraysSupport", name := "hashCode", desc := "(I[CII)I" } : Jvm.MethodName) prog_69_method_7_code (6 : Nat) (Option.some Jvm.ClassFile.FieldType.int)) ∈ lw_all := lw_g (lw_at lw_m3 3 rfl) rfl
theorem q738 : (Jvm.Cond.methodLink "jdk/internal/util/ArraysSupport" (75 : Nat) ({ cls := "jdk/internal/util/ArraysSupport", name := "hashCode", desc := "(I[BII)I" } : Jvm.MethodName)) ∈ lw_all := lw_g (lw_at lw_m3 4 rfl) rfl
theorem q739 : (Jvm.Cond.static ({ cls := "jdk/internal/util/ArraysSupport", name := "hashCode", desc := "(I[BII)I" } : Jvm.MethodName)) ∈ lw_all := lw_g (lw_at lw_m3 5 rfl) rfl
theorem q740 : (Jvm.Cond.code ({ cls := "jdk/internal/util/ArraysSupport", name := "hashCode", desc := "(I[BII)I" } : Jvm.MethodName) prog_69_method_6_code (6 : Nat) (Option.some Jvm.ClassFile.FieldType.int)) ∈ lw_all := lw_g (lw_at lw_m3 6 rfl) rfl
theorem q741 : (Jvm.Cond.classLink "jdk/internal/util/ArraysSupport" (77 : Nat) "[S") ∈ lw_all := lw_g (lw_at lw_m3 7 rfl) rfl
theorem q742 : (Jvm.Cond.methodLink "jdk/internal/util/ArraysSupport" (79 : Nat) ({ cls := "jdk/internal/util/ArraysSupport", name := "hashCode", desc := "(I[SII)I" } : Jvm.MethodName)) ∈ lw_all := lw_g (lw_at lw_m3 8 rfl) rfl
theorem q743 : (Jvm.Cond.static ({ cls := "jdk/internal/util/ArraysSupport", name := "hashCode", desc := "(I[SII)I" } : Jvm.MethodName)) ∈ lw_all := lw_g (lw_at lw_m3 9 rfl) rfl
theorem q744 : (Jvm.Cond.code ({ cls := "jdk/internal/util/ArraysSupport", name := "hashCode", desc := "(I[SII)I" } : Jvm.MethodName) prog_69_method_8_code (6 : Nat) (Option.some Jvm.ClassFile.FieldType.int)) ∈ lw_all := lw_g (lw_at lw_m3 10 rfl) rfl
theorem q745 : (Jvm.Cond.classLink "jdk/internal/util/ArraysSupport" (82 : Nat) "[I") ∈ lw_all := lw_g (lw_at lw_m3 11 rfl) rfl
theorem q746 : (Jvm.Cond.methodLink "jdk/internal/util/ArraysSupport" (84 : Nat) ({ cls := "jdk/internal/util/ArraysSupport", name := "hashCode", desc := "(I[III)I" } : Jvm.MethodName)) ∈ lw_all := lw_g (lw_at lw_m3 12 rfl) rfl
theorem q747 : (Jvm.Cond.static ({ cls := "jdk/internal/util/ArraysSupport", name := "hashCode", desc := "(I[III)I" } : Jvm.MethodName)) ∈ lw_all := lw_g (lw_at lw_m3 13 rfl) rfl
theorem q748 : (Jvm.Cond.code ({ cls := "jdk/internal/util/ArraysSupport", name := "hashCode", desc := "(I[III)I" } : Jvm.MethodName) prog_69_method_9_code (6 : Nat) (Option.some Jvm.ClassFile.FieldType.int)) ∈ lw_all := lw_g (lw_at lw_m3 14 rfl) rfl
theorem q920 : (Jvm.Cond.static ({ cls := "jdk/internal/util/ArraysSupport", name := "mismatch", desc := "([B[BI)I" } : Jvm.MethodName)) ∈ lw_all := lw_g (lw_at lw_m3 186 rfl) rfl
theorem q921 : (Jvm.Cond.code ({ cls := "jdk/internal/util/ArraysSupport", name := "mismatch", desc := "([B[BI)I" } : Jvm.MethodName) prog_69_method_13_code (4 : Nat) (Option.some Jvm.ClassFile.FieldType.int)) ∈ lw_all := lw_g (lw_at lw_m3 187 rfl) rfl
theorem q922 : (Jvm.Cond.fieldLink "jdk/internal/util/ArraysSupport" (126 : Nat) "jdk/internal/misc/Unsafe" "ARRAY_BYTE_BASE_OFFSET" "I") ∈ lw_all := lw_g (lw_at lw_m3 188 rfl) rfl
theorem q924 : (Jvm.Cond.fieldLink "jdk/internal/util/ArraysSupport" (129 : Nat) "jdk/internal/util/ArraysSupport" "LOG2_ARRAY_BYTE_INDEX_SCALE" "I") ∈ lw_all := lw_g (lw_at lw_m3 190 rfl) rfl
theorem q925 : (Jvm.Cond.laysStatic "jdk/internal/util/ArraysSupport" "LOG2_ARRAY_BYTE_INDEX_SCALE" "I") ∈ lw_tbl := lw_at lw_m3 191 rfl
theorem q926 : (Jvm.Cond.methodLink "jdk/internal/util/ArraysSupport" (122 : Nat) ({ cls := "jdk/internal/util/ArraysSupport", name := "vectorizedMismatch", desc := "(Ljava/lang/Object;JLjava/lang/Object;JII)I" } : Jvm.MethodName)) ∈ lw_all := lw_g (lw_at lw_m3 192 rfl) rfl
theorem q927 : (Jvm.Cond.static ({ cls := "jdk/internal/util/ArraysSupport", name := "vectorizedMismatch", desc := "(Ljava/lang/Object;JLjava/lang/Object;JII)I" } : Jvm.MethodName)) ∈ lw_all := lw_g (lw_at lw_m3 193 rfl) rfl
theorem q928 : (Jvm.Cond.code ({ cls := "jdk/internal/util/ArraysSupport", name := "vectorizedMismatch", desc := "(Ljava/lang/Object;JLjava/lang/Object;JII)I" } : Jvm.MethodName) prog_69_method_3_code (19 : Nat) (Option.some Jvm.ClassFile.FieldType.int)) ∈ lw_all := lw_g (lw_at lw_m3 194 rfl) rfl
theorem q929 : (Jvm.Cond.fieldLink "jdk/internal/util/ArraysSupport" (20 : Nat) "jdk/internal/util/ArraysSupport" "LOG2_ARRAY_LONG_INDEX_SCALE" "I") ∈ lw_all := lw_g (lw_at lw_m3 195 rfl) rfl
theorem q930 : (Jvm.Cond.laysStatic "jdk/internal/util/ArraysSupport" "LOG2_ARRAY_LONG_INDEX_SCALE" "I") ∈ lw_tbl := lw_at lw_m3 196 rfl
theorem q931 : (Jvm.Cond.fieldLink "jdk/internal/util/ArraysSupport" (26 : Nat) "jdk/internal/util/ArraysSupport" "U" "Ljdk/internal/misc/Unsafe;") ∈ lw_all := lw_g (lw_at lw_m3 197 rfl) rfl
theorem q932 : (Jvm.Cond.laysStatic "jdk/internal/util/ArraysSupport" "U" "Ljdk/internal/misc/Unsafe;") ∈ lw_tbl := lw_at lw_m3 198 rfl
theorem q933 : (Jvm.Cond.methodLink "jdk/internal/util/ArraysSupport" (30 : Nat) ({ cls := "jdk/internal/misc/Unsafe", name := "getLongUnaligned", desc := "(Ljava/lang/Object;J)J" } : Jvm.MethodName)) ∈ lw_all := lw_g (lw_at lw_m3 199 rfl) rfl
theorem q985 : (Jvm.Cond.fieldLink "jdk/internal/util/ArraysSupport" (36 : Nat) "jdk/internal/util/ArraysSupport" "BIG_ENDIAN" "Z") ∈ lw_all := lw_g (lw_at lw_m4 11 rfl) rfl
theorem q986 : (Jvm.Cond.laysStatic "jdk/internal/util/ArraysSupport" "BIG_ENDIAN" "Z") ∈ lw_tbl := lw_at lw_m4 12 rfl
theorem q987 : (Jvm.Cond.methodLink "jdk/internal/util/ArraysSupport" (40 : Nat) ({ cls := "java/lang/Long", name := "numberOfLeadingZeros", desc := "(J)I" } : Jvm.MethodName)) ∈ lw_all := lw_g (lw_at lw_m4 13 rfl) rfl
theorem q994 : (Jvm.Cond.fieldLink "jdk/internal/util/ArraysSupport" (46 : Nat) "jdk/internal/util/ArraysSupport" "LOG2_BYTE_BIT_SIZE" "I") ∈ lw_all := lw_g (lw_at lw_m4 20 rfl) rfl
theorem q995 : (Jvm.Cond.laysStatic "jdk/internal/util/ArraysSupport" "LOG2_BYTE_BIT_SIZE" "I") ∈ lw_tbl := lw_at lw_m4 21 rfl
theorem q996 : (Jvm.Cond.methodLink "jdk/internal/util/ArraysSupport" (49 : Nat) ({ cls := "java/lang/Long", name := "numberOfTrailingZeros", desc := "(J)I" } : Jvm.MethodName)) ∈ lw_all := lw_g (lw_at lw_m4 22 rfl) rfl
theorem q1002 : (Jvm.Cond.fieldLink "jdk/internal/util/ArraysSupport" (51 : Nat) "jdk/internal/util/ArraysSupport" "LOG2_ARRAY_INT_INDEX_SCALE" "I") ∈ lw_all := lw_g (lw_at lw_m4 28 rfl) rfl
theorem q1003 : (Jvm.Cond.laysStatic "jdk/internal/util/ArraysSupport" "LOG2_ARRAY_INT_INDEX_SCALE" "I") ∈ lw_tbl := lw_at lw_m4 29 rfl
theorem q1004 : (Jvm.Cond.methodLink "jdk/internal/util/ArraysSupport" (54 : Nat) ({ cls := "jdk/internal/misc/Unsafe", name := "getIntUnaligned", desc := "(Ljava/lang/Object;J)I" } : Jvm.MethodName)) ∈ lw_all := lw_g (lw_at lw_m4 30 rfl) rfl
theorem q1021 : (Jvm.Cond.methodLink "jdk/internal/util/ArraysSupport" (58 : Nat) ({ cls := "java/lang/Integer", name := "numberOfLeadingZeros", desc := "(I)I" } : Jvm.MethodName)) ∈ lw_all := lw_g (lw_at lw_m4 47 rfl) rfl
theorem q1022 : (Jvm.Cond.methodLink "jdk/internal/util/ArraysSupport" (11 : Nat) ({ cls := "java/lang/Integer", name := "numberOfTrailingZeros", desc := "(I)I" } : Jvm.MethodName)) ∈ lw_all := lw_g (lw_at lw_m4 48 rfl) rfl
theorem q1446 : (Jvm.Cond.static ({ cls := "jdk/internal/util/ArraysSupport", name := "newLength", desc := "(III)I" } : Jvm.MethodName)) ∈ lw_all := lw_g (lw_at lw_m5 232 rfl) rfl
theorem q1447 : (Jvm.Cond.code ({ cls := "jdk/internal/util/ArraysSupport", name := "newLength", desc := "(III)I" } : Jvm.MethodName) prog_69_method_27_code (4 : Nat) (Option.some Jvm.ClassFile.FieldType.int)) ∈ lw_all := lw_g (lw_at lw_m5 233 rfl) rfl
theorem q1448 : (Jvm.Cond.methodLink "jdk/internal/util/ArraysSupport" (194 : Nat) ({ cls := "java/lang/Math", name := "max", desc := "(II)I" } : Jvm.MethodName)) ∈ lw_all := lw_g (lw_at lw_m5 234 rfl) rfl
theorem q1451 : (Jvm.Cond.constant "jdk/internal/util/ArraysSupport" (200 : Nat) (2147483639 : Int32)) ∈ lw_all := lw_g (lw_at lw_m5 237 rfl) rfl
theorem q1452 : (Jvm.Cond.methodLink "jdk/internal/util/ArraysSupport" (201 : Nat) ({ cls := "jdk/internal/util/ArraysSupport", name := "hugeLength", desc := "(II)I" } : Jvm.MethodName)) ∈ lw_all := lw_g (lw_at lw_m5 238 rfl) rfl
theorem q1453 : (Jvm.Cond.static ({ cls := "jdk/internal/util/ArraysSupport", name := "hugeLength", desc := "(II)I" } : Jvm.MethodName)) ∈ lw_all := lw_g (lw_at lw_m5 239 rfl) rfl
theorem q1454 : (Jvm.Cond.code ({ cls := "jdk/internal/util/ArraysSupport", name := "hugeLength", desc := "(II)I" } : Jvm.MethodName) prog_69_method_28_code (3 : Nat) (Option.some Jvm.ClassFile.FieldType.int)) ∈ lw_all := lw_g (lw_at lw_m6 0 rfl) rfl
/-! java/util/HashMap$Node -/
set_option maxRecDepth 100000
def RJ12 : String := "java/util/HashMap$Node"
def TJ12 : u_T := fun k => match k with
  | 0 => ("java/util/HashMap$Node", "hash", "I", true)
  | 1 => ("java/util/HashMap$Node", "key", "Ljava/lang/Object;", true)
  | 2 => ("java/util/HashMap$Node", "value", "Ljava/lang/Object;", false)
  | _ => ("java/util/HashMap$Node", "next", "Ljava/util/HashMap$Node;", false)
def tyJ12 : Nat → FieldType := fun k => match k with
  | 0 => .int
  | 1 => .object "java/lang/Object"
  | 2 => .object "java/lang/Object"
  | _ => .object "java/util/HashMap$Node"
abbrev wsJ120 : List Cond := u_ws RJ12 TJ12 4
theorem nmJ12 : ∀ a, a < 4 → ∀ b, b < 4 → a ≠ b → (TJ12 a).2.1 ≠ (TJ12 b).2.1 := by decide +kernel
theorem tyJ12_ok : ∀ k, k < 4 → parseFieldDescriptor (TJ12 k).2.2.1 = some (tyJ12 k) := by decide +kernel
abbrev cJ12_init : ByteArray := prog_54_method_1_code
def yJ12_init : MethodName := ⟨RJ12, "<init>", "(ILjava/lang/Object;Ljava/lang/Object;Ljava/util/HashMap$Node;)V"⟩
theorem q275 : (Jvm.Cond.initialized "java/util/HashMap$Node") ∈ lw_all := lw_g (lw_at lw_m1 21 rfl) rfl
theorem q784 : (Jvm.Cond.instantiable "java/util/HashMap$Node" (4 : Nat)) ∈ lw_all := lw_g (lw_at lw_m3 50 rfl) rfl
theorem q786 : (Jvm.Cond.instanceMethod ({ cls := "java/util/HashMap$Node", name := "<init>", desc := "(ILjava/lang/Object;Ljava/lang/Object;Ljava/util/HashMap$Node;)V" } : Jvm.MethodName)) ∈ lw_all := lw_g (lw_at lw_m3 52 rfl) rfl
theorem q787 : (Jvm.Cond.code ({ cls := "java/util/HashMap$Node", name := "<init>", desc := "(ILjava/lang/Object;Ljava/lang/Object;Ljava/util/HashMap$Node;)V" } : Jvm.MethodName) prog_54_method_1_code (5 : Nat) (Option.none : Option Jvm.ClassFile.FieldType)) ∈ lw_all := lw_g (lw_at lw_m3 53 rfl) rfl
theorem q788 : (Jvm.Cond.methodLink "java/util/HashMap$Node" (1 : Nat) ({ cls := "java/lang/Object", name := "<init>", desc := "()V" } : Jvm.MethodName)) ∈ lw_all := lw_g (lw_at lw_m3 54 rfl) rfl
theorem q789 : (Jvm.Cond.fieldLink "java/util/HashMap$Node" (7 : Nat) "java/util/HashMap$Node" "hash" "I") ∈ lw_all := lw_g (lw_at lw_m3 55 rfl) rfl
theorem q793 : (Jvm.Cond.fieldLink "java/util/HashMap$Node" (13 : Nat) "java/util/HashMap$Node" "key" "Ljava/lang/Object;") ∈ lw_all := lw_g (lw_at lw_m3 59 rfl) rfl
theorem q797 : (Jvm.Cond.fieldLink "java/util/HashMap$Node" (17 : Nat) "java/util/HashMap$Node" "value" "Ljava/lang/Object;") ∈ lw_all := lw_g (lw_at lw_m3 63 rfl) rfl
theorem q799 : (Jvm.Cond.fieldLink "java/util/HashMap$Node" (20 : Nat) "java/util/HashMap$Node" "next" "Ljava/util/HashMap$Node;") ∈ lw_all := lw_g (lw_at lw_m3 65 rfl) rfl
theorem q805 : (Jvm.Cond.laysFinal "java/util/HashMap$Node" "java/util/HashMap$Node" "hash" "I") ∈ lw_all := lw_g (lw_at lw_m3 71 rfl) rfl
theorem q806 : (Jvm.Cond.soleField "java/util/HashMap$Node" "hash") ∈ lw_all := lw_g (lw_at lw_m3 72 rfl) rfl
theorem q807 : (Jvm.Cond.laysFinal "java/util/HashMap$Node" "java/util/HashMap$Node" "key" "Ljava/lang/Object;") ∈ lw_all := lw_g (lw_at lw_m3 73 rfl) rfl
theorem q808 : (Jvm.Cond.soleField "java/util/HashMap$Node" "key") ∈ lw_all := lw_g (lw_at lw_m3 74 rfl) rfl
theorem q809 : (Jvm.Cond.lays "java/util/HashMap$Node" "java/util/HashMap$Node" "value" "Ljava/lang/Object;") ∈ lw_all := lw_g (lw_at lw_m3 75 rfl) rfl
theorem q810 : (Jvm.Cond.soleField "java/util/HashMap$Node" "value") ∈ lw_all := lw_g (lw_at lw_m3 76 rfl) rfl
theorem q811 : (Jvm.Cond.lays "java/util/HashMap$Node" "java/util/HashMap$Node" "next" "Ljava/util/HashMap$Node;") ∈ lw_all := lw_g (lw_at lw_m3 77 rfl) rfl
theorem q812 : (Jvm.Cond.soleField "java/util/HashMap$Node" "next") ∈ lw_all := lw_g (lw_at lw_m3 78 rfl) rfl
theorem q813 : (Jvm.Cond.superclass "java/util/HashMap$Node" "java/lang/Object") ∈ lw_all := lw_g (lw_at lw_m3 79 rfl) rfl
theorem q850 : (Jvm.Cond.selects "java/util/HashMap$Node" ({ cls := "java/lang/Object", name := "getClass", desc := "()Ljava/lang/Class;" } : Jvm.MethodName) ({ cls := "java/lang/Object", name := "getClass", desc := "()Ljava/lang/Class;" } : Jvm.MethodName)) ∈ lw_all := lw_g (lw_at lw_m3 116 rfl) rfl
theorem q4327 : (Jvm.Cond.castable "java/util/HashMap$Node" "java/lang/Object") ∈ lw_tbl := lw_at lw_m17 233 rfl
theorem in_J12 : ∀ w ∈ wsJ120, w ∈ lw_all := lw_in wsJ120 [805, 807, 809, 811] (by decide +kernel) (by decide +kernel)
/-! jdk/internal/misc/Unsafe -/
set_option maxRecDepth 100000
def RJ13 : String := "jdk/internal/misc/Unsafe"
abbrev cJ13_getLongUnaligned : ByteArray := prog_67_method_334_code
def yJ13_getLongUnaligned : MethodName := ⟨RJ13, "getLongUnaligned", "(Ljava/lang/Object;J)J"⟩
abbrev cJ13_makeLong : ByteArray := prog_67_method_353_code
def yJ13_makeLong : MethodName := ⟨RJ13, "makeLong", "(II)J"⟩
abbrev cJ13_toUnsignedLong : ByteArray := prog_67_method_370_code
def yJ13_toUnsignedLong : MethodName := ⟨RJ13, "toUnsignedLong", "(I)J"⟩
abbrev cJ13_pickPos : ByteArray := prog_67_method_350_code
def yJ13_pickPos : MethodName := ⟨RJ13, "pickPos", "(II)I"⟩
abbrev cJ13_makeLong_2 : ByteArray := prog_67_method_352_code
def yJ13_makeLong_2 : MethodName := ⟨RJ13, "makeLong", "(SSSS)J"⟩
abbrev cJ13_toUnsignedLong_2 : ByteArray := prog_67_method_369_code
def yJ13_toUnsignedLong_2 : MethodName := ⟨RJ13, "toUnsignedLong", "(S)J"⟩
abbrev cJ13_makeLong_3 : ByteArray := prog_67_method_351_code
def yJ13_makeLong_3 : MethodName := ⟨RJ13, "makeLong", "(BBBBBBBB)J"⟩
abbrev cJ13_toUnsignedLong_3 : ByteArray := prog_67_method_368_code
def yJ13_toUnsignedLong_3 : MethodName := ⟨RJ13, "toUnsignedLong", "(B)J"⟩
abbrev cJ13_getIntUnaligned : ByteArray := prog_67_method_336_code
def yJ13_getIntUnaligned : MethodName := ⟨RJ13, "getIntUnaligned", "(Ljava/lang/Object;J)I"⟩
abbrev cJ13_makeInt : ByteArray := prog_67_method_354_code
def yJ13_makeInt : MethodName := ⟨RJ13, "makeInt", "(SS)I"⟩
abbrev cJ13_toUnsignedInt : ByteArray := prog_67_method_367_code
def yJ13_toUnsignedInt : MethodName := ⟨RJ13, "toUnsignedInt", "(S)I"⟩
abbrev cJ13_makeInt_2 : ByteArray := prog_67_method_355_code
def yJ13_makeInt_2 : MethodName := ⟨RJ13, "makeInt", "(BBBB)I"⟩
abbrev cJ13_toUnsignedInt_2 : ByteArray := prog_67_method_366_code
def yJ13_toUnsignedInt_2 : MethodName := ⟨RJ13, "toUnsignedInt", "(B)I"⟩
theorem q276 : (Jvm.Cond.initialized "jdk/internal/misc/Unsafe") ∈ lw_all := lw_g (lw_at lw_m1 22 rfl) rfl
theorem q755 : (Jvm.Cond.selects "jdk/internal/misc/Unsafe" ({ cls := "java/lang/Object", name := "hashCode", desc := "()I" } : Jvm.MethodName) ({ cls := "java/lang/Object", name := "hashCode", desc := "()I" } : Jvm.MethodName)) ∈ lw_all := lw_g (lw_at lw_m3 21 rfl) rfl
theorem q854 : (Jvm.Cond.selects "jdk/internal/misc/Unsafe" ({ cls := "java/lang/Object", name := "getClass", desc := "()Ljava/lang/Class;" } : Jvm.MethodName) ({ cls := "java/lang/Object", name := "getClass", desc := "()Ljava/lang/Class;" } : Jvm.MethodName)) ∈ lw_all := lw_g (lw_at lw_m3 120 rfl) rfl
theorem q923 : (Jvm.Cond.laysStatic "jdk/internal/misc/Unsafe" "ARRAY_BYTE_BASE_OFFSET" "I") ∈ lw_tbl := lw_at lw_m3 189 rfl
theorem q934 : (Jvm.Cond.instanceMethod ({ cls := "jdk/internal/misc/Unsafe", name := "getLongUnaligned", desc := "(Ljava/lang/Object;J)J" } : Jvm.MethodName)) ∈ lw_all := lw_g (lw_at lw_m3 200 rfl) rfl
theorem q935 : (Jvm.Cond.selects "jdk/internal/misc/Unsafe" ({ cls := "jdk/internal/misc/Unsafe", name := "getLongUnaligned", desc := "(Ljava/lang/Object;J)J" } : Jvm.MethodName) ({ cls := "jdk/internal/misc/Unsafe", name := "getLongUnaligned", desc := "(Ljava/lang/Object;J)J" } : Jvm.MethodName)) ∈ lw_all := lw_g (lw_at lw_m3 201 rfl) rfl
theorem q936 : (Jvm.Cond.code ({ cls := "jdk/internal/misc/Unsafe", name := "getLongUnaligned", desc := "(Ljava/lang/Object;J)J" } : Jvm.MethodName) prog_67_method_334_code (4 : Nat) (Option.some Jvm.ClassFile.FieldType.long)) ∈ lw_all := lw_g (lw_at lw_m3 202 rfl) rfl
theorem q937 : (Jvm.Cond.constantLong "jdk/internal/misc/Unsafe" (696 : Nat) (7 : Int64)) ∈ lw_all := lw_g (lw_at lw_m3 203 rfl) rfl
theorem q938 : (Jvm.Cond.methodLink "jdk/internal/misc/Unsafe" (27 : Nat) ({ cls := "jdk/internal/misc/Unsafe", name := "getLong", desc := "(Ljava/lang/Object;J)J" } : Jvm.MethodName)) ∈ lw_all := lw_g (lw_at lw_m3 204 rfl) rfl
theorem q939 : (Jvm.Cond.instanceMethod ({ cls := "jdk/internal/misc/Unsafe", name := "getLong", desc := "(Ljava/lang/Object;J)J" } : Jvm.MethodName)) ∈ lw_all := lw_g (lw_at lw_m3 205 rfl) rfl
theorem q940 : (Jvm.Cond.selects "jdk/internal/misc/Unsafe" ({ cls := "jdk/internal/misc/Unsafe", name := "getLong", desc := "(Ljava/lang/Object;J)J" } : Jvm.MethodName) ({ cls := "jdk/internal/misc/Unsafe", name := "getLong", desc := "(Ljava/lang/Object;J)J" } : Jvm.MethodName)) ∈ lw_all := lw_g (lw_at lw_m3 206 rfl) rfl
theorem q941 : (Jvm.Cond.native ({ cls := "jdk/internal/misc/Unsafe", name := "getLong", desc := "(Ljava/lang/Object;J)J" } : Jvm.MethodName)) ∈ lw_all := lw_g (lw_at lw_m3 207 rfl) rfl
theorem q942 : (Jvm.Cond.constantLong "jdk/internal/misc/Unsafe" (349 : Nat) (3 : Int64)) ∈ lw_all := lw_g (lw_at lw_m3 208 rfl) rfl
theorem q943 : (Jvm.Cond.methodLink "jdk/internal/misc/Unsafe" (17 : Nat) ({ cls := "jdk/internal/misc/Unsafe", name := "getInt", desc := "(Ljava/lang/Object;J)I" } : Jvm.MethodName)) ∈ lw_all := lw_g (lw_at lw_m3 209 rfl) rfl
theorem q944 : (Jvm.Cond.instanceMethod ({ cls := "jdk/internal/misc/Unsafe", name := "getInt", desc := "(Ljava/lang/Object;J)I" } : Jvm.MethodName)) ∈ lw_all := lw_g (lw_at lw_m3 210 rfl) rfl
theorem q945 : (Jvm.Cond.selects "jdk/internal/misc/Unsafe" ({ cls := "jdk/internal/misc/Unsafe", name := "getInt", desc := "(Ljava/lang/Object;J)I" } : Jvm.MethodName) ({ cls := "jdk/internal/misc/Unsafe", name := "getInt", desc := "(Ljava/lang/Object;J)I" } : Jvm.MethodName)) ∈ lw_all := lw_g (lw_at lw_m3 211 rfl) rfl
theorem q946 : (Jvm.Cond.native ({ cls := "jdk/internal/misc/Unsafe", name := "getInt", desc := "(Ljava/lang/Object;J)I" } : Jvm.MethodName)) ∈ lw_all := lw_g (lw_at lw_m3 212 rfl) rfl
theorem q947 : (Jvm.Cond.constantLong "jdk/internal/misc/Unsafe" (205 : Nat) (4 : Int64)) ∈ lw_all := lw_g (lw_at lw_m3 213 rfl) rfl
theorem q948 : (Jvm.Cond.methodLink "jdk/internal/misc/Unsafe" (698 : Nat) ({ cls := "jdk/internal/misc/Unsafe", name := "makeLong", desc := "(II)J" } : Jvm.MethodName)) ∈ lw_all := lw_g (lw_at lw_m3 214 rfl) rfl
theorem q949 : (Jvm.Cond.static ({ cls := "jdk/internal/misc/Unsafe", name := "makeLong", desc := "(II)J" } : Jvm.MethodName)) ∈ lw_all := lw_g (lw_at lw_m3 215 rfl) rfl
theorem q950 : (Jvm.Cond.code ({ cls := "jdk/internal/misc/Unsafe", name := "makeLong", desc := "(II)J" } : Jvm.MethodName) prog_67_method_353_code (2 : Nat) (Option.some Jvm.ClassFile.FieldType.long)) ∈ lw_all := lw_g (lw_at lw_m3 216 rfl) rfl
theorem q951 : (Jvm.Cond.methodLink "jdk/internal/misc/Unsafe" (791 : Nat) ({ cls := "jdk/internal/misc/Unsafe", name := "toUnsignedLong", desc := "(I)J" } : Jvm.MethodName)) ∈ lw_all := lw_g (lw_at lw_m3 217 rfl) rfl
theorem q952 : (Jvm.Cond.static ({ cls := "jdk/internal/misc/Unsafe", name := "toUnsignedLong", desc := "(I)J" } : Jvm.MethodName)) ∈ lw_all := lw_g (lw_at lw_m3 218 rfl) rfl
theorem q953 : (Jvm.Cond.code ({ cls := "jdk/internal/misc/Unsafe", name := "toUnsignedLong", desc := "(I)J" } : Jvm.MethodName) prog_67_method_370_code (1 : Nat) (Option.some Jvm.ClassFile.FieldType.long)) ∈ lw_all := lw_g (lw_at lw_m3 219 rfl) rfl
theorem q954 : (Jvm.Cond.constantLong "jdk/internal/misc/Unsafe" (812 : Nat) (4294967295 : Int64)) ∈ lw_all := lw_g (lw_at lw_m3 220 rfl) rfl
theorem q955 : (Jvm.Cond.methodLink "jdk/internal/misc/Unsafe" (784 : Nat) ({ cls := "jdk/internal/misc/Unsafe", name := "pickPos", desc := "(II)I" } : Jvm.MethodName)) ∈ lw_all := lw_g (lw_at lw_m3 221 rfl) rfl
theorem q956 : (Jvm.Cond.static ({ cls := "jdk/internal/misc/Unsafe", name := "pickPos", desc := "(II)I" } : Jvm.MethodName)) ∈ lw_all := lw_g (lw_at lw_m3 222 rfl) rfl
theorem q957 : (Jvm.Cond.code ({ cls := "jdk/internal/misc/Unsafe", name := "pickPos", desc := "(II)I" } : Jvm.MethodName) prog_67_method_350_code (2 : Nat) (Option.some Jvm.ClassFile.FieldType.int)) ∈ lw_all := lw_g (lw_at lw_m3 223 rfl) rfl
theorem q958 : (Jvm.Cond.fieldLink "jdk/internal/misc/Unsafe" (351 : Nat) "jdk/internal/misc/UnsafeConstants" "BIG_ENDIAN" "Z") ∈ lw_all := lw_g (lw_at lw_m3 224 rfl) rfl
theorem q960 : (Jvm.Cond.methodLink "jdk/internal/misc/Unsafe" (47 : Nat) ({ cls := "jdk/internal/misc/Unsafe", name := "getShort", desc := "(Ljava/lang/Object;J)S" } : Jvm.MethodName)) ∈ lw_all := lw_g (lw_at lw_m3 226 rfl) rfl
theorem q961 : (Jvm.Cond.instanceMethod ({ cls := "jdk/internal/misc/Unsafe", name := "getShort", desc := "(Ljava/lang/Object;J)S" } : Jvm.MethodName)) ∈ lw_all := lw_g (lw_at lw_m3 227 rfl) rfl
theorem q962 : (Jvm.Cond.selects "jdk/internal/misc/Unsafe" ({ cls := "jdk/internal/misc/Unsafe", name := "getShort", desc := "(Ljava/lang/Object;J)S" } : Jvm.MethodName) ({ cls := "jdk/internal/misc/Unsafe", name := "getShort", desc := "(Ljava/lang/Object;J)S" } : Jvm.MethodName)) ∈ lw_all := lw_g (lw_at lw_m3 228 rfl) rfl
theorem q963 : (Jvm.Cond.native ({ cls := "jdk/internal/misc/Unsafe", name := "getShort", desc := "(Ljava/lang/Object;J)S" } : Jvm.MethodName)) ∈ lw_all := lw_g (lw_at lw_m3 229 rfl) rfl
theorem q964 : (Jvm.Cond.constantLong "jdk/internal/misc/Unsafe" (203 : Nat) (2 : Int64)) ∈ lw_all := lw_g (lw_at lw_m3 230 rfl) rfl
theorem q965 : (Jvm.Cond.constantLong "jdk/internal/misc/Unsafe" (702 : Nat) (6 : Int64)) ∈ lw_all := lw_g (lw_at lw_m3 231 rfl) rfl
theorem q966 : (Jvm.Cond.methodLink "jdk/internal/misc/Unsafe" (704 : Nat) ({ cls := "jdk/internal/misc/Unsafe", name := "makeLong", desc := "(SSSS)J" } : Jvm.MethodName)) ∈ lw_all := lw_g (lw_at lw_m3 232 rfl) rfl
theorem q967 : (Jvm.Cond.static ({ cls := "jdk/internal/misc/Unsafe", name := "makeLong", desc := "(SSSS)J" } : Jvm.MethodName)) ∈ lw_all := lw_g (lw_at lw_m3 233 rfl) rfl
theorem q968 : (Jvm.Cond.code ({ cls := "jdk/internal/misc/Unsafe", name := "makeLong", desc := "(SSSS)J" } : Jvm.MethodName) prog_67_method_352_code (4 : Nat) (Option.some Jvm.ClassFile.FieldType.long)) ∈ lw_all := lw_g (lw_at lw_m3 234 rfl) rfl
theorem q969 : (Jvm.Cond.methodLink "jdk/internal/misc/Unsafe" (788 : Nat) ({ cls := "jdk/internal/misc/Unsafe", name := "toUnsignedLong", desc := "(S)J" } : Jvm.MethodName)) ∈ lw_all := lw_g (lw_at lw_m3 235 rfl) rfl
theorem q970 : (Jvm.Cond.static ({ cls := "jdk/internal/misc/Unsafe", name := "toUnsignedLong", desc := "(S)J" } : Jvm.MethodName)) ∈ lw_all := lw_g (lw_at lw_m3 236 rfl) rfl
theorem q971 : (Jvm.Cond.code ({ cls := "jdk/internal/misc/Unsafe", name := "toUnsignedLong", desc := "(S)J" } : Jvm.MethodName) prog_67_method_369_code (1 : Nat) (Option.some Jvm.ClassFile.FieldType.long)) ∈ lw_all := lw_g (lw_at lw_m3 237 rfl) rfl
theorem q972 : (Jvm.Cond.constantLong "jdk/internal/misc/Unsafe" (810 : Nat) (65535 : Int64)) ∈ lw_all := lw_g (lw_at lw_m3 238 rfl) rfl
theorem q973 : (Jvm.Cond.methodLink "jdk/internal/misc/Unsafe" (39 : Nat) ({ cls := "jdk/internal/misc/Unsafe", name := "getByte", desc := "(Ljava/lang/Object;J)B" } : Jvm.MethodName)) ∈ lw_all := lw_g (lw_at lw_m3 239 rfl) rfl
theorem q974 : (Jvm.Cond.instanceMethod ({ cls := "jdk/internal/misc/Unsafe", name := "getByte", desc := "(Ljava/lang/Object;J)B" } : Jvm.MethodName)) ∈ lw_all := lw_g (lw_at lw_m4 0 rfl) rfl
theorem q975 : (Jvm.Cond.selects "jdk/internal/misc/Unsafe" ({ cls := "jdk/internal/misc/Unsafe", name := "getByte", desc := "(Ljava/lang/Object;J)B" } : Jvm.MethodName) ({ cls := "jdk/internal/misc/Unsafe", name := "getByte", desc := "(Ljava/lang/Object;J)B" } : Jvm.MethodName)) ∈ lw_all := lw_g (lw_at lw_m4 1 rfl) rfl
theorem q976 : (Jvm.Cond.native ({ cls := "jdk/internal/misc/Unsafe", name := "getByte", desc := "(Ljava/lang/Object;J)B" } : Jvm.MethodName)) ∈ lw_all := lw_g (lw_at lw_m4 2 rfl) rfl
theorem q977 : (Jvm.Cond.constantLong "jdk/internal/misc/Unsafe" (707 : Nat) (5 : Int64)) ∈ lw_all := lw_g (lw_at lw_m4 3 rfl) rfl
theorem q978 : (Jvm.Cond.methodLink "jdk/internal/misc/Unsafe" (709 : Nat) ({ cls := "jdk/internal/misc/Unsafe", name := "makeLong", desc := "(BBBBBBBB)J" } : Jvm.MethodName)) ∈ lw_all := lw_g (lw_at lw_m4 4 rfl) rfl
theorem q979 : (Jvm.Cond.static ({ cls := "jdk/internal/misc/Unsafe", name := "makeLong", desc := "(BBBBBBBB)J" } : Jvm.MethodName)) ∈ lw_all := lw_g (lw_at lw_m4 5 rfl) rfl
theorem q980 : (Jvm.Cond.code ({ cls := "jdk/internal/misc/Unsafe", name := "makeLong", desc := "(BBBBBBBB)J" } : Jvm.MethodName) prog_67_method_351_code (8 : Nat) (Option.some Jvm.ClassFile.FieldType.long)) ∈ lw_all := lw_g (lw_at lw_m4 6 rfl) rfl
theorem q981 : (Jvm.Cond.methodLink "jdk/internal/misc/Unsafe" (781 : Nat) ({ cls := "jdk/internal/misc/Unsafe", name := "toUnsignedLong", desc := "(B)J" } : Jvm.MethodName)) ∈ lw_all := lw_g (lw_at lw_m4 7 rfl) rfl
theorem q982 : (Jvm.Cond.static ({ cls := "jdk/internal/misc/Unsafe", name := "toUnsignedLong", desc := "(B)J" } : Jvm.MethodName)) ∈ lw_all := lw_g (lw_at lw_m4 8 rfl) rfl
theorem q983 : (Jvm.Cond.code ({ cls := "jdk/internal/misc/Unsafe", name := "toUnsignedLong", desc := "(B)J" } : Jvm.MethodName) prog_67_method_368_code (1 : Nat) (Option.some Jvm.ClassFile.FieldType.long)) ∈ lw_all := lw_g (lw_at lw_m4 9 rfl) rfl
theorem q984 : (Jvm.Cond.constantLong "jdk/internal/misc/Unsafe" (808 : Nat) (255 : Int64)) ∈ lw_all := lw_g (lw_at lw_m4 10 rfl) rfl
theorem q1005 : (Jvm.Cond.instanceMethod ({ cls := "jdk/internal/misc/Unsafe", name := "getIntUnaligned", desc := "(Ljava/lang/Object;J)I" } : Jvm.MethodName)) ∈ lw_all := lw_g (lw_at lw_m4 31 rfl) rfl
theorem q1006 : (Jvm.Cond.selects "jdk/internal/misc/Unsafe" ({ cls := "jdk/internal/misc/Unsafe", name := "getIntUnaligned", desc := "(Ljava/lang/Object;J)I" } : Jvm.MethodName) ({ cls := "jdk/internal/misc/Unsafe", name := "getIntUnaligned", desc := "(Ljava/lang/Object;J)I" } : Jvm.MethodName)) ∈ lw_all := lw_g (lw_at lw_m4 32 rfl) rfl
theorem q1007 : (Jvm.Cond.code ({ cls := "jdk/internal/misc/Unsafe", name := "getIntUnaligned", desc := "(Ljava/lang/Object;J)I" } : Jvm.MethodName) prog_67_method_336_code (4 : Nat) (Option.some Jvm.ClassFile.FieldType.int)) ∈ lw_all := lw_g (lw_at lw_m4 33 rfl) rfl
theorem q1008 : (Jvm.Cond.methodLink "jdk/internal/misc/Unsafe" (719 : Nat) ({ cls := "jdk/internal/misc/Unsafe", name := "makeInt", desc := "(SS)I" } : Jvm.MethodName)) ∈ lw_all := lw_g (lw_at lw_m4 34 rfl) rfl
theorem q1009 : (Jvm.Cond.static ({ cls := "jdk/internal/misc/Unsafe", name := "makeInt", desc := "(SS)I" } : Jvm.MethodName)) ∈ lw_all := lw_g (lw_at lw_m4 35 rfl) rfl
theorem q1010 : (Jvm.Cond.code ({ cls := "jdk/internal/misc/Unsafe", name := "makeInt", desc := "(SS)I" } : Jvm.MethodName) prog_67_method_354_code (2 : Nat) (Option.some Jvm.ClassFile.FieldType.int)) ∈ lw_all := lw_g (lw_at lw_m4 36 rfl) rfl
theorem q1011 : (Jvm.Cond.methodLink "jdk/internal/misc/Unsafe" (792 : Nat) ({ cls := "jdk/internal/misc/Unsafe", name := "toUnsignedInt", desc := "(S)I" } : Jvm.MethodName)) ∈ lw_all := lw_g (lw_at lw_m4 37 rfl) rfl
theorem q1012 : (Jvm.Cond.static ({ cls := "jdk/internal/misc/Unsafe", name := "toUnsignedInt", desc := "(S)I" } : Jvm.MethodName)) ∈ lw_all := lw_g (lw_at lw_m4 38 rfl) rfl
theorem q1013 : (Jvm.Cond.code ({ cls := "jdk/internal/misc/Unsafe", name := "toUnsignedInt", desc := "(S)I" } : Jvm.MethodName) prog_67_method_367_code (1 : Nat) (Option.some Jvm.ClassFile.FieldType.int)) ∈ lw_all := lw_g (lw_at lw_m4 39 rfl) rfl
theorem q1014 : (Jvm.Cond.constant "jdk/internal/misc/Unsafe" (374 : Nat) (65535 : Int32)) ∈ lw_all := lw_g (lw_at lw_m4 40 rfl) rfl
theorem q1015 : (Jvm.Cond.methodLink "jdk/internal/misc/Unsafe" (723 : Nat) ({ cls := "jdk/internal/misc/Unsafe", name := "makeInt", desc := "(BBBB)I" } : Jvm.MethodName)) ∈ lw_all := lw_g (lw_at lw_m4 41 rfl) rfl
theorem q1016 : (Jvm.Cond.static ({ cls := "jdk/internal/misc/Unsafe", name := "makeInt", desc := "(BBBB)I" } : Jvm.MethodName)) ∈ lw_all := lw_g (lw_at lw_m4 42 rfl) rfl
theorem q1017 : (Jvm.Cond.code ({ cls := "jdk/internal/misc/Unsafe", name := "makeInt", desc := "(BBBB)I" } : Jvm.MethodName) prog_67_method_355_code (4 : Nat) (Option.some Jvm.ClassFile.FieldType.int)) ∈ lw_all := lw_g (lw_at lw_m4 43 rfl) rfl
theorem q1018 : (Jvm.Cond.methodLink "jdk/internal/misc/Unsafe" (796 : Nat) ({ cls := "jdk/internal/misc/Unsafe", name := "toUnsignedInt", desc := "(B)I" } : Jvm.MethodName)) ∈ lw_all := lw_g (lw_at lw_m4 44 rfl) rfl
theorem q1019 : (Jvm.Cond.static ({ cls := "jdk/internal/misc/Unsafe", name := "toUnsignedInt", desc := "(B)I" } : Jvm.MethodName)) ∈ lw_all := lw_g (lw_at lw_m4 45 rfl) rfl
theorem q1020 : (Jvm.Cond.code ({ cls := "jdk/internal/misc/Unsafe", name := "toUnsignedInt", desc := "(B)I" } : Jvm.MethodName) prog_67_method_366_code (1 : Nat) (Option.some Jvm.ClassFile.FieldType.int)) ∈ lw_all := lw_g (lw_at lw_m4 46 rfl) rfl
theorem q1145 : (Jvm.Cond.selects "jdk/internal/misc/Unsafe" ({ cls := "java/lang/Object", name := "equals", desc := "(Ljava/lang/Object;)Z" } : Jvm.MethodName) ({ cls := "java/lang/Object", name := "equals", desc := "(Ljava/lang/Object;)Z" } : Jvm.MethodName)) ∈ lw_all := lw_g (lw_at lw_m4 171 rfl) rfl
theorem q4339 : (Jvm.Cond.castable "jdk/internal/misc/Unsafe" "java/lang/Object") ∈ lw_tbl := lw_at lw_m18 5 rfl
/-! java/lang/Long -/
set_option maxRecDepth 100000
def RJ14 : String := "java/lang/Long"
abbrev cJ14_numberOfLeadingZeros : ByteArray := prog_33_method_48_code
def yJ14_numberOfLeadingZeros : MethodName := ⟨RJ14, "numberOfLeadingZeros", "(J)I"⟩
abbrev cJ14_numberOfTrailingZeros : ByteArray := prog_33_method_49_code
def yJ14_numberOfTrailingZeros : MethodName := ⟨RJ14, "numberOfTrailingZeros", "(J)I"⟩
theorem q278 : (Jvm.Cond.initialized "java/lang/Long") ∈ lw_all := lw_g (lw_at lw_m1 24 rfl) rfl
theorem q988 : (Jvm.Cond.static ({ cls := "java/lang/Long", name := "numberOfLeadingZeros", desc := "(J)I" } : Jvm.MethodName)) ∈ lw_all := lw_g (lw_at lw_m4 14 rfl) rfl
theorem q989 : (Jvm.Cond.code ({ cls := "java/lang/Long", name := "numberOfLeadingZeros", desc := "(J)I" } : Jvm.MethodName) prog_33_method_48_code (3 : Nat) (Option.some Jvm.ClassFile.FieldType.int)) ∈ lw_all := lw_g (lw_at lw_m4 15 rfl) rfl
theorem q990 : (Jvm.Cond.methodLink "java/lang/Long" (308 : Nat) ({ cls := "java/lang/Integer", name := "numberOfLeadingZeros", desc := "(I)I" } : Jvm.MethodName)) ∈ lw_all := lw_g (lw_at lw_m4 16 rfl) rfl
theorem q997 : (Jvm.Cond.static ({ cls := "java/lang/Long", name := "numberOfTrailingZeros", desc := "(J)I" } : Jvm.MethodName)) ∈ lw_all := lw_g (lw_at lw_m4 23 rfl) rfl
theorem q998 : (Jvm.Cond.code ({ cls := "java/lang/Long", name := "numberOfTrailingZeros", desc := "(J)I" } : Jvm.MethodName) prog_33_method_49_code (3 : Nat) (Option.some Jvm.ClassFile.FieldType.int)) ∈ lw_all := lw_g (lw_at lw_m4 24 rfl) rfl
theorem q999 : (Jvm.Cond.methodLink "java/lang/Long" (311 : Nat) ({ cls := "java/lang/Integer", name := "numberOfTrailingZeros", desc := "(I)I" } : Jvm.MethodName)) ∈ lw_all := lw_g (lw_at lw_m4 25 rfl) rfl
/-! java/util/LinkedHashMap$Entry -/
set_option maxRecDepth 100000
def RJ15 : String := "java/util/LinkedHashMap$Entry"
abbrev cJ15_init : ByteArray := prog_57_method_1_code
def yJ15_init : MethodName := ⟨RJ15, "<init>", "(ILjava/lang/Object;Ljava/lang/Object;Ljava/util/HashMap$Node;)V"⟩
theorem q279 : (Jvm.Cond.initialized "java/util/LinkedHashMap$Entry") ∈ lw_all := lw_g (lw_at lw_m1 25 rfl) rfl
theorem q1169 : (Jvm.Cond.instanceMethod ({ cls := "java/util/LinkedHashMap$Entry", name := "<init>", desc := "(ILjava/lang/Object;Ljava/lang/Object;Ljava/util/HashMap$Node;)V" } : Jvm.MethodName)) ∈ lw_all := lw_g (lw_at lw_m4 195 rfl) rfl
theorem q1170 : (Jvm.Cond.code ({ cls := "java/util/LinkedHashMap$Entry", name := "<init>", desc := "(ILjava/lang/Object;Ljava/lang/Object;Ljava/util/HashMap$Node;)V" } : Jvm.MethodName) prog_57_method_1_code (5 : Nat) (Option.none : Option Jvm.ClassFile.FieldType)) ∈ lw_all := lw_g (lw_at lw_m4 196 rfl) rfl
theorem q1171 : (Jvm.Cond.methodLink "java/util/LinkedHashMap$Entry" (1 : Nat) ({ cls := "java/util/HashMap$Node", name := "<init>", desc := "(ILjava/lang/Object;Ljava/lang/Object;Ljava/util/HashMap$Node;)V" } : Jvm.MethodName)) ∈ lw_all := lw_g (lw_at lw_m4 197 rfl) rfl
theorem q1189 : (Jvm.Cond.soleField "java/util/LinkedHashMap$Entry" "before") ∈ lw_all := lw_g (lw_at lw_m4 215 rfl) rfl
theorem q1191 : (Jvm.Cond.soleField "java/util/LinkedHashMap$Entry" "after") ∈ lw_all := lw_g (lw_at lw_m4 217 rfl) rfl
/-! java/util/HashMap$TreeNode -/
set_option maxRecDepth 100000
def RJ16 : String := "java/util/HashMap$TreeNode"
def TJ16 : u_T := fun k => match k with
  | 0 => ("java/util/LinkedHashMap$Entry", "before", "Ljava/util/LinkedHashMap$Entry;", false)
  | 1 => ("java/util/LinkedHashMap$Entry", "after", "Ljava/util/LinkedHashMap$Entry;", false)
  | 2 => ("java/util/HashMap$Node", "hash", "I", true)
  | 3 => ("java/util/HashMap$Node", "key", "Ljava/lang/Object;", true)
  | 4 => ("java/util/HashMap$Node", "value", "Ljava/lang/Object;", false)
  | 5 => ("java/util/HashMap$Node", "next", "Ljava/util/HashMap$Node;", false)
  | 6 => ("java/util/HashMap$TreeNode", "parent", "Ljava/util/HashMap$TreeNode;", false)
  | 7 => ("java/util/HashMap$TreeNode", "left", "Ljava/util/HashMap$TreeNode;", false)
  | 8 => ("java/util/HashMap$TreeNode", "right", "Ljava/util/HashMap$TreeNode;", false)
  | 9 => ("java/util/HashMap$TreeNode", "prev", "Ljava/util/HashMap$TreeNode;", false)
  | _ => ("java/util/HashMap$TreeNode", "red", "Z", false)
def tyJ16 : Nat → FieldType := fun k => match k with
  | 0 => .object "java/util/LinkedHashMap$Entry"
  | 1 => .object "java/util/LinkedHashMap$Entry"
  | 2 => .int
  | 3 => .object "java/lang/Object"
  | 4 => .object "java/lang/Object"
  | 5 => .object "java/util/HashMap$Node"
  | 6 => .object "java/util/HashMap$TreeNode"
  | 7 => .object "java/util/HashMap$TreeNode"
  | 8 => .object "java/util/HashMap$TreeNode"
  | 9 => .object "java/util/HashMap$TreeNode"
  | _ => .boolean
abbrev wsJ160 : List Cond := u_ws RJ16 TJ16 11
theorem nmJ16 : ∀ a, a < 11 → ∀ b, b < 11 → a ≠ b → (TJ16 a).2.1 ≠ (TJ16 b).2.1 := by decide +kernel
theorem tyJ16_ok : ∀ k, k < 11 → parseFieldDescriptor (TJ16 k).2.2.1 = some (tyJ16 k) := by decide +kernel
abbrev cJ16_split : ByteArray := prog_55_method_11_code
def yJ16_split : MethodName := ⟨RJ16, "split", "(Ljava/util/HashMap;[Ljava/util/HashMap$Node;II)V"⟩
abbrev cJ16_untreeify : ByteArray := prog_55_method_8_code
def yJ16_untreeify : MethodName := ⟨RJ16, "untreeify", "(Ljava/util/HashMap;)Ljava/util/HashMap$Node;"⟩
abbrev cJ16_treeify : ByteArray := prog_55_method_7_code
def yJ16_treeify : MethodName := ⟨RJ16, "treeify", "([Ljava/util/HashMap$Node;)V"⟩
abbrev cJ16_balanceInsertion : ByteArray := prog_55_method_14_code
def yJ16_balanceInsertion : MethodName := ⟨RJ16, "balanceInsertion", "(Ljava/util/HashMap$TreeNode;Ljava/util/HashMap$TreeNode;)Ljava/util/HashMap$TreeNode;"⟩
abbrev cJ16_rotateLeft : ByteArray := prog_55_method_12_code
def yJ16_rotateLeft : MethodName := ⟨RJ16, "rotateLeft", "(Ljava/util/HashMap$TreeNode;Ljava/util/HashMap$TreeNode;)Ljava/util/HashMap$TreeNode;"⟩
abbrev cJ16_rotateRight : ByteArray := prog_55_method_13_code
def yJ16_rotateRight : MethodName := ⟨RJ16, "rotateRight", "(Ljava/util/HashMap$TreeNode;Ljava/util/HashMap$TreeNode;)Ljava/util/HashMap$TreeNode;"⟩
abbrev cJ16_moveRootToFront : ByteArray := prog_55_method_3_code
def yJ16_moveRootToFront : MethodName := ⟨RJ16, "moveRootToFront", "([Ljava/util/HashMap$Node;Ljava/util/HashMap$TreeNode;)V"⟩
abbrev cJ16_putTreeVal : ByteArray := prog_55_method_9_code
def yJ16_putTreeVal : MethodName := ⟨RJ16, "putTreeVal", "(Ljava/util/HashMap;[Ljava/util/HashMap$Node;ILjava/lang/Object;Ljava/lang/Object;)Ljava/util/HashMap$TreeNode;"⟩
abbrev cJ16_root : ByteArray := prog_55_method_2_code
def yJ16_root : MethodName := ⟨RJ16, "root", "()Ljava/util/HashMap$TreeNode;"⟩
abbrev cJ16_find : ByteArray := prog_55_method_4_code
def yJ16_find : MethodName := ⟨RJ16, "find", "(ILjava/lang/Object;Ljava/lang/Class;)Ljava/util/HashMap$TreeNode;"⟩
abbrev cJ16_init : ByteArray := prog_55_method_1_code
def yJ16_init : MethodName := ⟨RJ16, "<init>", "(ILjava/lang/Object;Ljava/lang/Object;Ljava/util/HashMap$Node;)V"⟩
abbrev cJ16_getTreeNode : ByteArray := prog_55_method_5_code
def yJ16_getTreeNode : MethodName := ⟨RJ16, "getTreeNode", "(ILjava/lang/Object;)Ljava/util/HashMap$TreeNode;"⟩
theorem q280 : (Jvm.Cond.initialized "java/util/HashMap$TreeNode") ∈ lw_all := lw_g (lw_at lw_m1 26 rfl) rfl
theorem q772 : (Jvm.Cond.instanceMethod ({ cls := "java/util/HashMap$TreeNode", name := "split", desc := "(Ljava/util/HashMap;[Ljava/util/HashMap$Node;II)V" } : Jvm.MethodName)) ∈ lw_all := lw_g (lw_at lw_m3 38 rfl) rfl
theorem q773 : (Jvm.Cond.selects "java/util/HashMap$TreeNode" ({ cls := "java/util/HashMap$TreeNode", name := "split", desc := "(Ljava/util/HashMap;[Ljava/util/HashMap$Node;II)V" } : Jvm.MethodName) ({ cls := "java/util/HashMap$TreeNode", name := "split", desc := "(Ljava/util/HashMap;[Ljava/util/HashMap$Node;II)V" } : Jvm.MethodName)) ∈ lw_all := lw_g (lw_at lw_m3 39 rfl) rfl
theorem q774 : (Jvm.Cond.code ({ cls := "java/util/HashMap$TreeNode", name := "split", desc := "(Ljava/util/HashMap;[Ljava/util/HashMap$Node;II)V" } : Jvm.MethodName) prog_55_method_11_code (14 : Nat) (Option.none : Option Jvm.ClassFile.FieldType)) ∈ lw_all := lw_g (lw_at lw_m3 40 rfl) rfl
theorem q775 : (Jvm.Cond.classLink "java/util/HashMap$TreeNode" (10 : Nat) "java/util/HashMap$TreeNode") ∈ lw_all := lw_g (lw_at lw_m3 41 rfl) rfl
theorem q776 : (Jvm.Cond.methodLink "java/util/HashMap$TreeNode" (119 : Nat) ({ cls := "java/util/HashMap$TreeNode", name := "untreeify", desc := "(Ljava/util/HashMap;)Ljava/util/HashMap$Node;" } : Jvm.MethodName)) ∈ lw_all := lw_g (lw_at lw_m3 42 rfl) rfl
theorem q777 : (Jvm.Cond.instanceMethod ({ cls := "java/util/HashMap$TreeNode", name := "untreeify", desc := "(Ljava/util/HashMap;)Ljava/util/HashMap$Node;" } : Jvm.MethodName)) ∈ lw_all := lw_g (lw_at lw_m3 43 rfl) rfl
theorem q778 : (Jvm.Cond.selects "java/util/HashMap$TreeNode" ({ cls := "java/util/HashMap$TreeNode", name := "untreeify", desc := "(Ljava/util/HashMap;)Ljava/util/HashMap$Node;" } : Jvm.MethodName) ({ cls := "java/util/HashMap$TreeNode", name := "untreeify", desc := "(Ljava/util/HashMap;)Ljava/util/HashMap$Node;" } : Jvm.MethodName)) ∈ lw_all := lw_g (lw_at lw_m3 44 rfl) rfl
theorem q779 : (Jvm.Cond.code ({ cls := "java/util/HashMap$TreeNode", name := "untreeify", desc := "(Ljava/util/HashMap;)Ljava/util/HashMap$Node;" } : Jvm.MethodName) prog_55_method_8_code (6 : Nat) (Option.some (Jvm.ClassFile.FieldType.object "java/util/HashMap$Node"))) ∈ lw_all := lw_g (lw_at lw_m3 45 rfl) rfl
theorem q780 : (Jvm.Cond.methodLink "java/util/HashMap$TreeNode" (108 : Nat) ({ cls := "java/util/HashMap", name := "replacementNode", desc := "(Ljava/util/HashMap$Node;Ljava/util/HashMap$Node;)Ljava/util/HashMap$Node;" } : Jvm.MethodName)) ∈ lw_all := lw_g (lw_at lw_m3 46 rfl) rfl
theorem q790 : (Jvm.Cond.fieldLink "java/util/HashMap$TreeNode" (15 : Nat) "java/util/HashMap$TreeNode" "hash" "I") ∈ lw_all := lw_g (lw_at lw_m3 56 rfl) rfl
theorem q791 : (Jvm.Cond.sameField "java/util/HashMap$TreeNode" "java/util/HashMap$Node" "hash" "I") ∈ lw_all := lw_g (lw_at lw_m3 57 rfl) rfl
theorem q794 : (Jvm.Cond.fieldLink "java/util/HashMap$TreeNode" (45 : Nat) "java/util/HashMap$TreeNode" "key" "Ljava/lang/Object;") ∈ lw_all := lw_g (lw_at lw_m3 60 rfl) rfl
theorem q795 : (Jvm.Cond.sameField "java/util/HashMap$TreeNode" "java/util/HashMap$Node" "key" "Ljava/lang/Object;") ∈ lw_all := lw_g (lw_at lw_m3 61 rfl) rfl
theorem q800 : (Jvm.Cond.fieldLink "java/util/HashMap$TreeNode" (22 : Nat) "java/util/HashMap$TreeNode" "next" "Ljava/util/HashMap$Node;") ∈ lw_all := lw_g (lw_at lw_m3 66 rfl) rfl
theorem q801 : (Jvm.Cond.sameField "java/util/HashMap$TreeNode" "java/util/HashMap$Node" "next" "Ljava/util/HashMap$Node;") ∈ lw_all := lw_g (lw_at lw_m3 67 rfl) rfl
theorem q802 : (Jvm.Cond.fieldLink "java/util/HashMap$TreeNode" (112 : Nat) "java/util/HashMap$Node" "next" "Ljava/util/HashMap$Node;") ∈ lw_all := lw_g (lw_at lw_m3 68 rfl) rfl
theorem q814 : (Jvm.Cond.methodLink "java/util/HashMap$TreeNode" (126 : Nat) ({ cls := "java/util/HashMap$TreeNode", name := "treeify", desc := "([Ljava/util/HashMap$Node;)V" } : Jvm.MethodName)) ∈ lw_all := lw_g (lw_at lw_m3 80 rfl) rfl
theorem q815 : (Jvm.Cond.instanceMethod ({ cls := "java/util/HashMap$TreeNode", name := "treeify", desc := "([Ljava/util/HashMap$Node;)V" } : Jvm.MethodName)) ∈ lw_all := lw_g (lw_at lw_m3 81 rfl) rfl
theorem q816 : (Jvm.Cond.selects "java/util/HashMap$TreeNode" ({ cls := "java/util/HashMap$TreeNode", name := "treeify", desc := "([Ljava/util/HashMap$Node;)V" } : Jvm.MethodName) ({ cls := "java/util/HashMap$TreeNode", name := "treeify", desc := "([Ljava/util/HashMap$Node;)V" } : Jvm.MethodName)) ∈ lw_all := lw_g (lw_at lw_m3 82 rfl) rfl
theorem q817 : (Jvm.Cond.code ({ cls := "java/util/HashMap$TreeNode", name := "treeify", desc := "([Ljava/util/HashMap$Node;)V" } : Jvm.MethodName) prog_55_method_7_code (13 : Nat) (Option.none : Option Jvm.ClassFile.FieldType)) ∈ lw_all := lw_g (lw_at lw_m3 83 rfl) rfl
theorem q818 : (Jvm.Cond.methodLink "java/util/HashMap$TreeNode" (55 : Nat) ({ cls := "java/util/HashMap", name := "comparableClassFor", desc := "(Ljava/lang/Object;)Ljava/lang/Class;" } : Jvm.MethodName)) ∈ lw_all := lw_g (lw_at lw_m3 84 rfl) rfl
theorem q851 : (Jvm.Cond.selects "java/util/HashMap$TreeNode" ({ cls := "java/lang/Object", name := "getClass", desc := "()Ljava/lang/Class;" } : Jvm.MethodName) ({ cls := "java/lang/Object", name := "getClass", desc := "()Ljava/lang/Class;" } : Jvm.MethodName)) ∈ lw_all := lw_g (lw_at lw_m3 117 rfl) rfl
theorem q857 : (Jvm.Cond.methodLink "java/util/HashMap$TreeNode" (59 : Nat) ({ cls := "java/util/HashMap", name := "compareComparables", desc := "(Ljava/lang/Class;Ljava/lang/Object;Ljava/lang/Object;)I" } : Jvm.MethodName)) ∈ lw_all := lw_g (lw_at lw_m3 123 rfl) rfl
theorem q1087 : (Jvm.Cond.methodLink "java/util/HashMap$TreeNode" (100 : Nat) ({ cls := "java/util/HashMap$TreeNode", name := "balanceInsertion", desc := "(Ljava/util/HashMap$TreeNode;Ljava/util/HashMap$TreeNode;)Ljava/util/HashMap$TreeNode;" } : Jvm.MethodName)) ∈ lw_all := lw_g (lw_at lw_m4 113 rfl) rfl
theorem q1088 : (Jvm.Cond.static ({ cls := "java/util/HashMap$TreeNode", name := "balanceInsertion", desc := "(Ljava/util/HashMap$TreeNode;Ljava/util/HashMap$TreeNode;)Ljava/util/HashMap$TreeNode;" } : Jvm.MethodName)) ∈ lw_all := lw_g (lw_at lw_m4 114 rfl) rfl
theorem q1089 : (Jvm.Cond.code ({ cls := "java/util/HashMap$TreeNode", name := "balanceInsertion", desc := "(Ljava/util/HashMap$TreeNode;Ljava/util/HashMap$TreeNode;)Ljava/util/HashMap$TreeNode;" } : Jvm.MethodName) prog_55_method_14_code (6 : Nat) (Option.some (Jvm.ClassFile.FieldType.object "java/util/HashMap$TreeNode"))) ∈ lw_all := lw_g (lw_at lw_m4 115 rfl) rfl
theorem q1090 : (Jvm.Cond.methodLink "java/util/HashMap$TreeNode" (130 : Nat) ({ cls := "java/util/HashMap$TreeNode", name := "rotateLeft", desc := "(Ljava/util/HashMap$TreeNode;Ljava/util/HashMap$TreeNode;)Ljava/util/HashMap$TreeNode;" } : Jvm.MethodName)) ∈ lw_all := lw_g (lw_at lw_m4 116 rfl) rfl
theorem q1091 : (Jvm.Cond.static ({ cls := "java/util/HashMap$TreeNode", name := "rotateLeft", desc := "(Ljava/util/HashMap$TreeNode;Ljava/util/HashMap$TreeNode;)Ljava/util/HashMap$TreeNode;" } : Jvm.MethodName)) ∈ lw_all := lw_g (lw_at lw_m4 117 rfl) rfl
theorem q1092 : (Jvm.Cond.code ({ cls := "java/util/HashMap$TreeNode", name := "rotateLeft", desc := "(Ljava/util/HashMap$TreeNode;Ljava/util/HashMap$TreeNode;)Ljava/util/HashMap$TreeNode;" } : Jvm.MethodName) prog_55_method_12_code (5 : Nat) (Option.some (Jvm.ClassFile.FieldType.object "java/util/HashMap$TreeNode"))) ∈ lw_all := lw_g (lw_at lw_m4 118 rfl) rfl
theorem q1093 : (Jvm.Cond.methodLink "java/util/HashMap$TreeNode" (133 : Nat) ({ cls := "java/util/HashMap$TreeNode", name := "rotateRight", desc := "(Ljava/util/HashMap$TreeNode;Ljava/util/HashMap$TreeNode;)Ljava/util/HashMap$TreeNode;" } : Jvm.MethodName)) ∈ lw_all := lw_g (lw_at lw_m4 119 rfl) rfl
theorem q1094 : (Jvm.Cond.static ({ cls := "java/util/HashMap$TreeNode", name := "rotateRight", desc := "(Ljava/util/HashMap$TreeNode;Ljava/util/HashMap$TreeNode;)Ljava/util/HashMap$TreeNode;" } : Jvm.MethodName)) ∈ lw_all := lw_g (lw_at lw_m4 120 rfl) rfl
theorem q1095 : (Jvm.Cond.code ({ cls := "java/util/HashMap$TreeNode", name := "rotateRight", desc := "(Ljava/util/HashMap$TreeNode;Ljava/util/HashMap$TreeNode;)Ljava/util/HashMap$TreeNode;" } : Jvm.MethodName) prog_55_method_13_code (5 : Nat) (Option.some (Jvm.ClassFile.FieldType.object "java/util/HashMap$TreeNode"))) ∈ lw_all := lw_g (lw_at lw_m4 121 rfl) rfl
theorem q1096 : (Jvm.Cond.methodLink "java/util/HashMap$TreeNode" (104 : Nat) ({ cls := "java/util/HashMap$TreeNode", name := "moveRootToFront", desc := "([Ljava/util/HashMap$Node;Ljava/util/HashMap$TreeNode;)V" } : Jvm.MethodName)) ∈ lw_all := lw_g (lw_at lw_m4 122 rfl) rfl
theorem q1097 : (Jvm.Cond.static ({ cls := "java/util/HashMap$TreeNode", name := "moveRootToFront", desc := "([Ljava/util/HashMap$Node;Ljava/util/HashMap$TreeNode;)V" } : Jvm.MethodName)) ∈ lw_all := lw_g (lw_at lw_m4 123 rfl) rfl
theorem q1098 : (Jvm.Cond.code ({ cls := "java/util/HashMap$TreeNode", name := "moveRootToFront", desc := "([Ljava/util/HashMap$Node;Ljava/util/HashMap$TreeNode;)V" } : Jvm.MethodName) prog_55_method_3_code (7 : Nat) (Option.none : Option Jvm.ClassFile.FieldType)) ∈ lw_all := lw_g (lw_at lw_m4 124 rfl) rfl
theorem q1099 : (Jvm.Cond.fieldLink "java/util/HashMap$TreeNode" (26 : Nat) "java/util/HashMap$TreeNode" "$assertionsDisabled" "Z") ∈ lw_all := lw_g (lw_at lw_m4 125 rfl) rfl
theorem q1100 : (Jvm.Cond.laysStatic "java/util/HashMap$TreeNode" "$assertionsDisabled" "Z") ∈ lw_tbl := lw_at lw_m4 126 rfl
theorem q1148 : (Jvm.Cond.instanceMethod ({ cls := "java/util/HashMap$TreeNode", name := "putTreeVal", desc := "(Ljava/util/HashMap;[Ljava/util/HashMap$Node;ILjava/lang/Object;Ljava/lang/Object;)Ljava/util/HashMap$TreeNode;" } : Jvm.MethodName)) ∈ lw_all := lw_g (lw_at lw_m4 174 rfl) rfl
theorem q1149 : (Jvm.Cond.selects "java/util/HashMap$TreeNode" ({ cls := "java/util/HashMap$TreeNode", name := "putTreeVal", desc := "(Ljava/util/HashMap;[Ljava/util/HashMap$Node;ILjava/lang/Object;Ljava/lang/Object;)Ljava/util/HashMap$TreeNode;" } : Jvm.MethodName) ({ cls := "java/util/HashMap$TreeNode", name := "putTreeVal", desc := "(Ljava/util/HashMap;[Ljava/util/HashMap$Node;ILjava/lang/Object;Ljava/lang/Object;)Ljava/util/HashMap$TreeNode;" } : Jvm.MethodName)) ∈ lw_all := lw_g (lw_at lw_m4 175 rfl) rfl
theorem q1150 : (Jvm.Cond.code ({ cls := "java/util/HashMap$TreeNode", name := "putTreeVal", desc := "(Ljava/util/HashMap;[Ljava/util/HashMap$Node;ILjava/lang/Object;Ljava/lang/Object;)Ljava/util/HashMap$TreeNode;" } : Jvm.MethodName) prog_55_method_9_code (16 : Nat) (Option.some (Jvm.ClassFile.FieldType.object "java/util/HashMap$TreeNode"))) ∈ lw_all := lw_g (lw_at lw_m4 176 rfl) rfl
theorem q1151 : (Jvm.Cond.methodLink "java/util/HashMap$TreeNode" (67 : Nat) ({ cls := "java/util/HashMap$TreeNode", name := "root", desc := "()Ljava/util/HashMap$TreeNode;" } : Jvm.MethodName)) ∈ lw_all := lw_g (lw_at lw_m4 177 rfl) rfl
theorem q1152 : (Jvm.Cond.instanceMethod ({ cls := "java/util/HashMap$TreeNode", name := "root", desc := "()Ljava/util/HashMap$TreeNode;" } : Jvm.MethodName)) ∈ lw_all := lw_g (lw_at lw_m4 178 rfl) rfl
theorem q1153 : (Jvm.Cond.selects "java/util/HashMap$TreeNode" ({ cls := "java/util/HashMap$TreeNode", name := "root", desc := "()Ljava/util/HashMap$TreeNode;" } : Jvm.MethodName) ({ cls := "java/util/HashMap$TreeNode", name := "root", desc := "()Ljava/util/HashMap$TreeNode;" } : Jvm.MethodName)) ∈ lw_all := lw_g (lw_at lw_m4 179 rfl) rfl
theorem q1154 : (Jvm.Cond.code ({ cls := "java/util/HashMap$TreeNode", name := "root", desc := "()Ljava/util/HashMap$TreeNode;" } : Jvm.MethodName) prog_55_method_2_code (3 : Nat) (Option.some (Jvm.ClassFile.FieldType.object "java/util/HashMap$TreeNode"))) ∈ lw_all := lw_g (lw_at lw_m4 180 rfl) rfl
theorem q1155 : (Jvm.Cond.methodLink "java/util/HashMap$TreeNode" (49 : Nat) ({ cls := "java/lang/Object", name := "equals", desc := "(Ljava/lang/Object;)Z" } : Jvm.MethodName)) ∈ lw_all := lw_g (lw_at lw_m4 181 rfl) rfl
theorem q1156 : (Jvm.Cond.methodLink "java/util/HashMap$TreeNode" (63 : Nat) ({ cls := "java/util/HashMap$TreeNode", name := "find", desc := "(ILjava/lang/Object;Ljava/lang/Class;)Ljava/util/HashMap$TreeNode;" } : Jvm.MethodName)) ∈ lw_all := lw_g (lw_at lw_m4 182 rfl) rfl
theorem q1157 : (Jvm.Cond.instanceMethod ({ cls := "java/util/HashMap$TreeNode", name := "find", desc := "(ILjava/lang/Object;Ljava/lang/Class;)Ljava/util/HashMap$TreeNode;" } : Jvm.MethodName)) ∈ lw_all := lw_g (lw_at lw_m4 183 rfl) rfl
theorem q1158 : (Jvm.Cond.selects "java/util/HashMap$TreeNode" ({ cls := "java/util/HashMap$TreeNode", name := "find", desc := "(ILjava/lang/Object;Ljava/lang/Class;)Ljava/util/HashMap$TreeNode;" } : Jvm.MethodName) ({ cls := "java/util/HashMap$TreeNode", name := "find", desc := "(ILjava/lang/Object;Ljava/lang/Class;)Ljava/util/HashMap$TreeNode;" } : Jvm.MethodName)) ∈ lw_all := lw_g (lw_at lw_m4 184 rfl) rfl
theorem q1159 : (Jvm.Cond.code ({ cls := "java/util/HashMap$TreeNode", name := "find", desc := "(ILjava/lang/Object;Ljava/lang/Class;)Ljava/util/HashMap$TreeNode;" } : Jvm.MethodName) prog_55_method_4_code (11 : Nat) (Option.some (Jvm.ClassFile.FieldType.object "java/util/HashMap$TreeNode"))) ∈ lw_all := lw_g (lw_at lw_m4 185 rfl) rfl
theorem q1160 : (Jvm.Cond.methodLink "java/util/HashMap$TreeNode" (115 : Nat) ({ cls := "java/util/HashMap", name := "newTreeNode", desc := "(ILjava/lang/Object;Ljava/lang/Object;Ljava/util/HashMap$Node;)Ljava/util/HashMap$TreeNode;" } : Jvm.MethodName)) ∈ lw_all := lw_g (lw_at lw_m4 186 rfl) rfl
theorem q1164 : (Jvm.Cond.instantiable "java/util/HashMap$TreeNode" (11 : Nat)) ∈ lw_all := lw_g (lw_at lw_m4 190 rfl) rfl
theorem q1166 : (Jvm.Cond.instanceMethod ({ cls := "java/util/HashMap$TreeNode", name := "<init>", desc := "(ILjava/lang/Object;Ljava/lang/Object;Ljava/util/HashMap$Node;)V" } : Jvm.MethodName)) ∈ lw_all := lw_g (lw_at lw_m4 192 rfl) rfl
theorem q1167 : (Jvm.Cond.code ({ cls := "java/util/HashMap$TreeNode", name := "<init>", desc := "(ILjava/lang/Object;Ljava/lang/Object;Ljava/util/HashMap$Node;)V" } : Jvm.MethodName) prog_55_method_1_code (5 : Nat) (Option.none : Option Jvm.ClassFile.FieldType)) ∈ lw_all := lw_g (lw_at lw_m4 193 rfl) rfl
theorem q1168 : (Jvm.Cond.methodLink "java/util/HashMap$TreeNode" (3 : Nat) ({ cls := "java/util/LinkedHashMap$Entry", name := "<init>", desc := "(ILjava/lang/Object;Ljava/lang/Object;Ljava/util/HashMap$Node;)V" } : Jvm.MethodName)) ∈ lw_all := lw_g (lw_at lw_m4 194 rfl) rfl
theorem q1172 : (Jvm.Cond.fieldLink "java/util/HashMap$TreeNode" (9 : Nat) "java/util/HashMap$TreeNode" "parent" "Ljava/util/HashMap$TreeNode;") ∈ lw_all := lw_g (lw_at lw_m4 198 rfl) rfl
theorem q1173 : (Jvm.Cond.fieldLink "java/util/HashMap$TreeNode" (39 : Nat) "java/util/HashMap$TreeNode" "left" "Ljava/util/HashMap$TreeNode;") ∈ lw_all := lw_g (lw_at lw_m4 199 rfl) rfl
theorem q1174 : (Jvm.Cond.fieldLink "java/util/HashMap$TreeNode" (42 : Nat) "java/util/HashMap$TreeNode" "right" "Ljava/util/HashMap$TreeNode;") ∈ lw_all := lw_g (lw_at lw_m4 200 rfl) rfl
theorem q1175 : (Jvm.Cond.fieldLink "java/util/HashMap$TreeNode" (19 : Nat) "java/util/HashMap$TreeNode" "prev" "Ljava/util/HashMap$TreeNode;") ∈ lw_all := lw_g (lw_at lw_m4 201 rfl) rfl
theorem q1177 : (Jvm.Cond.fieldLink "java/util/HashMap$TreeNode" (93 : Nat) "java/util/HashMap$TreeNode" "red" "Z") ∈ lw_all := lw_g (lw_at lw_m4 203 rfl) rfl
theorem q1178 : (Jvm.Cond.lays "java/util/HashMap$TreeNode" "java/util/HashMap$TreeNode" "parent" "Ljava/util/HashMap$TreeNode;") ∈ lw_all := lw_g (lw_at lw_m4 204 rfl) rfl
theorem q1179 : (Jvm.Cond.soleField "java/util/HashMap$TreeNode" "parent") ∈ lw_all := lw_g (lw_at lw_m4 205 rfl) rfl
theorem q1180 : (Jvm.Cond.lays "java/util/HashMap$TreeNode" "java/util/HashMap$TreeNode" "left" "Ljava/util/HashMap$TreeNode;") ∈ lw_all := lw_g (lw_at lw_m4 206 rfl) rfl
theorem q1181 : (Jvm.Cond.soleField "java/util/HashMap$TreeNode" "left") ∈ lw_all := lw_g (lw_at lw_m4 207 rfl) rfl
theorem q1182 : (Jvm.Cond.lays "java/util/HashMap$TreeNode" "java/util/HashMap$TreeNode" "right" "Ljava/util/HashMap$TreeNode;") ∈ lw_all := lw_g (lw_at lw_m4 208 rfl) rfl
theorem q1183 : (Jvm.Cond.soleField "java/util/HashMap$TreeNode" "right") ∈ lw_all := lw_g (lw_at lw_m4 209 rfl) rfl
theorem q1184 : (Jvm.Cond.lays "java/util/HashMap$TreeNode" "java/util/HashMap$TreeNode" "prev" "Ljava/util/HashMap$TreeNode;") ∈ lw_all := lw_g (lw_at lw_m4 210 rfl) rfl
theorem q1185 : (Jvm.Cond.soleField "java/util/HashMap$TreeNode" "prev") ∈ lw_all := lw_g (lw_at lw_m4 211 rfl) rfl
theorem q1186 : (Jvm.Cond.lays "java/util/HashMap$TreeNode" "java/util/HashMap$TreeNode" "red" "Z") ∈ lw_all := lw_g (lw_at lw_m4 212 rfl) rfl
theorem q1187 : (Jvm.Cond.soleField "java/util/HashMap$TreeNode" "red") ∈ lw_all := lw_g (lw_at lw_m4 213 rfl) rfl
theorem q1188 : (Jvm.Cond.lays "java/util/HashMap$TreeNode" "java/util/LinkedHashMap$Entry" "before" "Ljava/util/LinkedHashMap$Entry;") ∈ lw_all := lw_g (lw_at lw_m4 214 rfl) rfl
theorem q1190 : (Jvm.Cond.lays "java/util/HashMap$TreeNode" "java/util/LinkedHashMap$Entry" "after" "Ljava/util/LinkedHashMap$Entry;") ∈ lw_all := lw_g (lw_at lw_m4 216 rfl) rfl
theorem q1192 : (Jvm.Cond.laysFinal "java/util/HashMap$TreeNode" "java/util/HashMap$Node" "hash" "I") ∈ lw_all := lw_g (lw_at lw_m4 218 rfl) rfl
theorem q1193 : (Jvm.Cond.laysFinal "java/util/HashMap$TreeNode" "java/util/HashMap$Node" "key" "Ljava/lang/Object;") ∈ lw_all := lw_g (lw_at lw_m4 219 rfl) rfl
theorem q1194 : (Jvm.Cond.lays "java/util/HashMap$TreeNode" "java/util/HashMap$Node" "value" "Ljava/lang/Object;") ∈ lw_all := lw_g (lw_at lw_m4 220 rfl) rfl
theorem q1195 : (Jvm.Cond.lays "java/util/HashMap$TreeNode" "java/util/HashMap$Node" "next" "Ljava/util/HashMap$Node;") ∈ lw_all := lw_g (lw_at lw_m4 221 rfl) rfl
theorem q1196 : (Jvm.Cond.superclass "java/util/HashMap$TreeNode" "java/util/LinkedHashMap$Entry") ∈ lw_all := lw_g (lw_at lw_m4 222 rfl) rfl
theorem q2537 : (Jvm.Cond.instanceMethod ({ cls := "java/util/HashMap$TreeNode", name := "getTreeNode", desc := "(ILjava/lang/Object;)Ljava/util/HashMap$TreeNode;" } : Jvm.MethodName)) ∈ lw_all := lw_g (lw_at lw_m10 123 rfl) rfl
theorem q2538 : (Jvm.Cond.selects "java/util/HashMap$TreeNode" ({ cls := "java/util/HashMap$TreeNode", name := "getTreeNode", desc := "(ILjava/lang/Object;)Ljava/util/HashMap$TreeNode;" } : Jvm.MethodName) ({ cls := "java/util/HashMap$TreeNode", name := "getTreeNode", desc := "(ILjava/lang/Object;)Ljava/util/HashMap$TreeNode;" } : Jvm.MethodName)) ∈ lw_all := lw_g (lw_at lw_m10 124 rfl) rfl
theorem q2539 : (Jvm.Cond.code ({ cls := "java/util/HashMap$TreeNode", name := "getTreeNode", desc := "(ILjava/lang/Object;)Ljava/util/HashMap$TreeNode;" } : Jvm.MethodName) prog_55_method_5_code (3 : Nat) (Option.some (Jvm.ClassFile.FieldType.object "java/util/HashMap$TreeNode"))) ∈ lw_all := lw_g (lw_at lw_m10 125 rfl) rfl
theorem q4340 : (Jvm.Cond.castable "java/util/HashMap$TreeNode" "java/lang/Object") ∈ lw_tbl := lw_at lw_m18 6 rfl
theorem q4358 : (Jvm.Cond.castable "java/util/HashMap$TreeNode" "java/util/HashMap$Node") ∈ lw_tbl := lw_at lw_m18 24 rfl
theorem in_J16 : ∀ w ∈ wsJ160, w ∈ lw_all := lw_in wsJ160 [1188, 1190, 1192, 1193, 1194, 1195, 1178, 1180, 1182, 1184, 1186] (by decide +kernel) (by decide +kernel)
/-! java/util/AbstractCollection -/
set_option maxRecDepth 100000
def RJ17 : String := "java/util/AbstractCollection"
abbrev cJ17_init : ByteArray := prog_46_method_1_code
def yJ17_init : MethodName := ⟨RJ17, "<init>", "()V"⟩
theorem q284 : (Jvm.Cond.initialized "java/util/AbstractCollection") ∈ lw_all := lw_g (lw_at lw_m1 30 rfl) rfl
theorem q1406 : (Jvm.Cond.instanceMethod ({ cls := "java/util/AbstractCollection", name := "<init>", desc := "()V" } : Jvm.MethodName)) ∈ lw_all := lw_g (lw_at lw_m5 192 rfl) rfl
theorem q1407 : (Jvm.Cond.code ({ cls := "java/util/AbstractCollection", name := "<init>", desc := "()V" } : Jvm.MethodName) prog_46_method_1_code (1 : Nat) (Option.none : Option Jvm.ClassFile.FieldType)) ∈ lw_all := lw_g (lw_at lw_m5 193 rfl) rfl
theorem q1408 : (Jvm.Cond.methodLink "java/util/AbstractCollection" (1 : Nat) ({ cls := "java/lang/Object", name := "<init>", desc := "()V" } : Jvm.MethodName)) ∈ lw_all := lw_g (lw_at lw_m5 194 rfl) rfl
/-! java/util/AbstractList -/
set_option maxRecDepth 100000
def RJ18 : String := "java/util/AbstractList"
abbrev cJ18_init : ByteArray := prog_47_method_1_code
def yJ18_init : MethodName := ⟨RJ18, "<init>", "()V"⟩
theorem q285 : (Jvm.Cond.initialized "java/util/AbstractList") ∈ lw_all := lw_g (lw_at lw_m1 31 rfl) rfl
theorem q1403 : (Jvm.Cond.instanceMethod ({ cls := "java/util/AbstractList", name := "<init>", desc := "()V" } : Jvm.MethodName)) ∈ lw_all := lw_g (lw_at lw_m5 189 rfl) rfl
theorem q1404 : (Jvm.Cond.code ({ cls := "java/util/AbstractList", name := "<init>", desc := "()V" } : Jvm.MethodName) prog_47_method_1_code (1 : Nat) (Option.none : Option Jvm.ClassFile.FieldType)) ∈ lw_all := lw_g (lw_at lw_m5 190 rfl) rfl
theorem q1405 : (Jvm.Cond.methodLink "java/util/AbstractList" (1 : Nat) ({ cls := "java/util/AbstractCollection", name := "<init>", desc := "()V" } : Jvm.MethodName)) ∈ lw_all := lw_g (lw_at lw_m5 191 rfl) rfl
theorem q1413 : (Jvm.Cond.fieldLink "java/util/AbstractList" (7 : Nat) "java/util/AbstractList" "modCount" "I") ∈ lw_all := lw_g (lw_at lw_m5 199 rfl) rfl
theorem q1421 : (Jvm.Cond.soleField "java/util/AbstractList" "modCount") ∈ lw_all := lw_g (lw_at lw_m5 207 rfl) rfl
/-! java/util/ArrayList -/
set_option maxRecDepth 100000
def RJ19 : String := "java/util/ArrayList"
def TJ19 : u_T := fun k => match k with
  | 0 => ("java/util/AbstractList", "modCount", "I", false)
  | 1 => ("java/util/ArrayList", "elementData", "[Ljava/lang/Object;", false)
  | _ => ("java/util/ArrayList", "size", "I", false)
def tyJ19 : Nat → FieldType := fun k => match k with
  | 0 => .int
  | 1 => .array (.object "java/lang/Object")
  | _ => .int
abbrev wsJ190 : List Cond := u_ws RJ19 TJ19 3
theorem nmJ19 : ∀ a, a < 3 → ∀ b, b < 3 → a ≠ b → (TJ19 a).2.1 ≠ (TJ19 b).2.1 := by decide +kernel
theorem tyJ19_ok : ∀ k, k < 3 → parseFieldDescriptor (TJ19 k).2.2.1 = some (tyJ19 k) := by decide +kernel
abbrev cJ19_init : ByteArray := prog_50_method_2_code
def yJ19_init : MethodName := ⟨RJ19, "<init>", "()V"⟩
abbrev cJ19_add : ByteArray := prog_50_method_25_code
def yJ19_add : MethodName := ⟨RJ19, "add", "(Ljava/lang/Object;)Z"⟩
abbrev cJ19_add_2 : ByteArray := prog_50_method_24_code
def yJ19_add_2 : MethodName := ⟨RJ19, "add", "(Ljava/lang/Object;[Ljava/lang/Object;I)V"⟩
abbrev cJ19_grow : ByteArray := prog_50_method_7_code
def yJ19_grow : MethodName := ⟨RJ19, "grow", "()[Ljava/lang/Object;"⟩
abbrev cJ19_grow_2 : ByteArray := prog_50_method_6_code
def yJ19_grow_2 : MethodName := ⟨RJ19, "grow", "(I)[Ljava/lang/Object;"⟩
abbrev cJ19_isEmpty : ByteArray := prog_50_method_9_code
def yJ19_isEmpty : MethodName := ⟨RJ19, "isEmpty", "()Z"⟩
abbrev cJ19_size : ByteArray := prog_50_method_8_code
def yJ19_size : MethodName := ⟨RJ19, "size", "()I"⟩
abbrev cJ19_get : ByteArray := prog_50_method_20_code
def yJ19_get : MethodName := ⟨RJ19, "get", "(I)Ljava/lang/Object;"⟩
abbrev cJ19_elementData : ByteArray := prog_50_method_18_code
def yJ19_elementData : MethodName := ⟨RJ19, "elementData", "(I)Ljava/lang/Object;"⟩
abbrev cJ19_remove : ByteArray := prog_50_method_29_code
def yJ19_remove : MethodName := ⟨RJ19, "remove", "(I)Ljava/lang/Object;"⟩
abbrev cJ19_fastRemove : ByteArray := prog_50_method_39_code
def yJ19_fastRemove : MethodName := ⟨RJ19, "fastRemove", "([Ljava/lang/Object;I)V"⟩
abbrev cJ19_contains : ByteArray := prog_50_method_10_code
def yJ19_contains : MethodName := ⟨RJ19, "contains", "(Ljava/lang/Object;)Z"⟩
abbrev cJ19_indexOf : ByteArray := prog_50_method_11_code
def yJ19_indexOf : MethodName := ⟨RJ19, "indexOf", "(Ljava/lang/Object;)I"⟩
abbrev cJ19_indexOfRange : ByteArray := prog_50_method_12_code
def yJ19_indexOfRange : MethodName := ⟨RJ19, "indexOfRange", "(Ljava/lang/Object;II)I"⟩
theorem q286 : (Jvm.Cond.initialized "java/util/ArrayList") ∈ lw_all := lw_g (lw_at lw_m1 32 rfl) rfl
theorem q848 : (Jvm.Cond.selects "java/util/ArrayList" ({ cls := "java/lang/Object", name := "getClass", desc := "()Ljava/lang/Class;" } : Jvm.MethodName) ({ cls := "java/lang/Object", name := "getClass", desc := "()Ljava/lang/Class;" } : Jvm.MethodName)) ∈ lw_all := lw_g (lw_at lw_m3 114 rfl) rfl
theorem q1398 : (Jvm.Cond.instantiable "java/util/ArrayList" (3 : Nat)) ∈ lw_all := lw_g (lw_at lw_m5 184 rfl) rfl
theorem q1400 : (Jvm.Cond.instanceMethod ({ cls := "java/util/ArrayList", name := "<init>", desc := "()V" } : Jvm.MethodName)) ∈ lw_all := lw_g (lw_at lw_m5 186 rfl) rfl
theorem q1401 : (Jvm.Cond.code ({ cls := "java/util/ArrayList", name := "<init>", desc := "()V" } : Jvm.MethodName) prog_50_method_2_code (1 : Nat) (Option.none : Option Jvm.ClassFile.FieldType)) ∈ lw_all := lw_g (lw_at lw_m5 187 rfl) rfl
theorem q1402 : (Jvm.Cond.methodLink "java/util/ArrayList" (1 : Nat) ({ cls := "java/util/AbstractList", name := "<init>", desc := "()V" } : Jvm.MethodName)) ∈ lw_all := lw_g (lw_at lw_m5 188 rfl) rfl
theorem q1409 : (Jvm.Cond.fieldLink "java/util/ArrayList" (39 : Nat) "java/util/ArrayList" "DEFAULTCAPACITY_EMPTY_ELEMENTDATA" "[Ljava/lang/Object;") ∈ lw_all := lw_g (lw_at lw_m5 195 rfl) rfl
theorem q1410 : (Jvm.Cond.laysStatic "java/util/ArrayList" "DEFAULTCAPACITY_EMPTY_ELEMENTDATA" "[Ljava/lang/Object;") ∈ lw_tbl := lw_at lw_m5 196 rfl
theorem q1411 : (Jvm.Cond.fieldLink "java/util/ArrayList" (9 : Nat) "java/util/ArrayList" "elementData" "[Ljava/lang/Object;") ∈ lw_all := lw_g (lw_at lw_m5 197 rfl) rfl
theorem q1412 : (Jvm.Cond.fieldLink "java/util/ArrayList" (48 : Nat) "java/util/ArrayList" "size" "I") ∈ lw_all := lw_g (lw_at lw_m5 198 rfl) rfl
theorem q1414 : (Jvm.Cond.fieldLink "java/util/ArrayList" (63 : Nat) "java/util/ArrayList" "modCount" "I") ∈ lw_all := lw_g (lw_at lw_m5 200 rfl) rfl
theorem q1415 : (Jvm.Cond.sameField "java/util/ArrayList" "java/util/AbstractList" "modCount" "I") ∈ lw_all := lw_g (lw_at lw_m5 201 rfl) rfl
theorem q1416 : (Jvm.Cond.lays "java/util/ArrayList" "java/util/ArrayList" "elementData" "[Ljava/lang/Object;") ∈ lw_all := lw_g (lw_at lw_m5 202 rfl) rfl
theorem q1417 : (Jvm.Cond.soleField "java/util/ArrayList" "elementData") ∈ lw_all := lw_g (lw_at lw_m5 203 rfl) rfl
theorem q1418 : (Jvm.Cond.lays "java/util/ArrayList" "java/util/ArrayList" "size" "I") ∈ lw_all := lw_g (lw_at lw_m5 204 rfl) rfl
theorem q1419 : (Jvm.Cond.soleField "java/util/ArrayList" "size") ∈ lw_all := lw_g (lw_at lw_m5 205 rfl) rfl
theorem q1420 : (Jvm.Cond.lays "java/util/ArrayList" "java/util/AbstractList" "modCount" "I") ∈ lw_all := lw_g (lw_at lw_m5 206 rfl) rfl
theorem q1422 : (Jvm.Cond.superclass "java/util/ArrayList" "java/util/AbstractList") ∈ lw_all := lw_g (lw_at lw_m5 208 rfl) rfl
theorem q1427 : (Jvm.Cond.castable "java/util/ArrayList" "java/util/List") ∈ lw_tbl := lw_at lw_m5 213 rfl
theorem q1428 : (Jvm.Cond.selects "java/util/ArrayList" ({ cls := "java/util/List", name := "add", desc := "(Ljava/lang/Object;)Z" } : Jvm.MethodName) ({ cls := "java/util/ArrayList", name := "add", desc := "(Ljava/lang/Object;)Z" } : Jvm.MethodName)) ∈ lw_all := lw_g (lw_at lw_m5 214 rfl) rfl
theorem q1429 : (Jvm.Cond.unhidden "java/util/ArrayList" "add" "(Ljava/lang/Object;)Z") ∈ lw_tbl := lw_at lw_m5 215 rfl
theorem q1430 : (Jvm.Cond.instanceMethod ({ cls := "java/util/ArrayList", name := "add", desc := "(Ljava/lang/Object;)Z" } : Jvm.MethodName)) ∈ lw_all := lw_g (lw_at lw_m5 216 rfl) rfl
theorem q1431 : (Jvm.Cond.publicMethod ({ cls := "java/util/ArrayList", name := "add", desc := "(Ljava/lang/Object;)Z" } : Jvm.MethodName)) ∈ lw_tbl := lw_at lw_m5 217 rfl
theorem q1432 : (Jvm.Cond.code ({ cls := "java/util/ArrayList", name := "add", desc := "(Ljava/lang/Object;)Z" } : Jvm.MethodName) prog_50_method_25_code (2 : Nat) (Option.some Jvm.ClassFile.FieldType.boolean)) ∈ lw_all := lw_g (lw_at lw_m5 218 rfl) rfl
theorem q1433 : (Jvm.Cond.methodLink "java/util/ArrayList" (131 : Nat) ({ cls := "java/util/ArrayList", name := "add", desc := "(Ljava/lang/Object;[Ljava/lang/Object;I)V" } : Jvm.MethodName)) ∈ lw_all := lw_g (lw_at lw_m5 219 rfl) rfl
theorem q1434 : (Jvm.Cond.privateMethod ({ cls := "java/util/ArrayList", name := "add", desc := "(Ljava/lang/Object;[Ljava/lang/Object;I)V" } : Jvm.MethodName)) ∈ lw_tbl := lw_at lw_m5 220 rfl
theorem q1435 : (Jvm.Cond.instanceMethod ({ cls := "java/util/ArrayList", name := "add", desc := "(Ljava/lang/Object;[Ljava/lang/Object;I)V" } : Jvm.MethodName)) ∈ lw_all := lw_g (lw_at lw_m5 221 rfl) rfl
theorem q1436 : (Jvm.Cond.code ({ cls := "java/util/ArrayList", name := "add", desc := "(Ljava/lang/Object;[Ljava/lang/Object;I)V" } : Jvm.MethodName) prog_50_method_24_code (4 : Nat) (Option.none : Option Jvm.ClassFile.FieldType)) ∈ lw_all := lw_g (lw_at lw_m5 222 rfl) rfl
theorem q1437 : (Jvm.Cond.methodLink "java/util/ArrayList" (129 : Nat) ({ cls := "java/util/ArrayList", name := "grow", desc := "()[Ljava/lang/Object;" } : Jvm.MethodName)) ∈ lw_all := lw_g (lw_at lw_m5 223 rfl) rfl
theorem q1438 : (Jvm.Cond.privateMethod ({ cls := "java/util/ArrayList", name := "grow", desc := "()[Ljava/lang/Object;" } : Jvm.MethodName)) ∈ lw_tbl := lw_at lw_m5 224 rfl
theorem q1439 : (Jvm.Cond.instanceMethod ({ cls := "java/util/ArrayList", name := "grow", desc := "()[Ljava/lang/Object;" } : Jvm.MethodName)) ∈ lw_all := lw_g (lw_at lw_m5 225 rfl) rfl
theorem q1440 : (Jvm.Cond.code ({ cls := "java/util/ArrayList", name := "grow", desc := "()[Ljava/lang/Object;" } : Jvm.MethodName) prog_50_method_7_code (1 : Nat) (Option.some (Jvm.ClassFile.FieldType.array (Jvm.ClassFile.FieldType.object "java/lang/Object")))) ∈ lw_all := lw_g (lw_at lw_m5 226 rfl) rfl
theorem q1441 : (Jvm.Cond.methodLink "java/util/ArrayList" (69 : Nat) ({ cls := "java/util/ArrayList", name := "grow", desc := "(I)[Ljava/lang/Object;" } : Jvm.MethodName)) ∈ lw_all := lw_g (lw_at lw_m5 227 rfl) rfl
theorem q1442 : (Jvm.Cond.privateMethod ({ cls := "java/util/ArrayList", name := "grow", desc := "(I)[Ljava/lang/Object;" } : Jvm.MethodName)) ∈ lw_tbl := lw_at lw_m5 228 rfl
theorem q1443 : (Jvm.Cond.instanceMethod ({ cls := "java/util/ArrayList", name := "grow", desc := "(I)[Ljava/lang/Object;" } : Jvm.MethodName)) ∈ lw_all := lw_g (lw_at lw_m5 229 rfl) rfl
theorem q1444 : (Jvm.Cond.code ({ cls := "java/util/ArrayList", name := "grow", desc := "(I)[Ljava/lang/Object;" } : Jvm.MethodName) prog_50_method_6_code (4 : Nat) (Option.some (Jvm.ClassFile.FieldType.array (Jvm.ClassFile.FieldType.object "java/lang/Object")))) ∈ lw_all := lw_g (lw_at lw_m5 230 rfl) rfl
theorem q1445 : (Jvm.Cond.methodLink "java/util/ArrayList" (73 : Nat) ({ cls := "jdk/internal/util/ArraysSupport", name := "newLength", desc := "(III)I" } : Jvm.MethodName)) ∈ lw_all := lw_g (lw_at lw_m5 231 rfl) rfl
theorem q1455 : (Jvm.Cond.methodLink "java/util/ArrayList" (66 : Nat) ({ cls := "java/util/Arrays", name := "copyOf", desc := "([Ljava/lang/Object;I)[Ljava/lang/Object;" } : Jvm.MethodName)) ∈ lw_all := lw_g (lw_at lw_m6 1 rfl) rfl
theorem q1465 : (Jvm.Cond.methodLink "java/util/ArrayList" (79 : Nat) ({ cls := "java/lang/Math", name := "max", desc := "(II)I" } : Jvm.MethodName)) ∈ lw_all := lw_g (lw_at lw_m6 11 rfl) rfl
theorem q1466 : (Jvm.Cond.classLink "java/util/ArrayList" (7 : Nat) "java/lang/Object") ∈ lw_all := lw_g (lw_at lw_m6 12 rfl) rfl
theorem q1990 : (Jvm.Cond.selects "java/util/ArrayList" ({ cls := "java/util/List", name := "isEmpty", desc := "()Z" } : Jvm.MethodName) ({ cls := "java/util/ArrayList", name := "isEmpty", desc := "()Z" } : Jvm.MethodName)) ∈ lw_all := lw_g (lw_at lw_m8 56 rfl) rfl
theorem q1991 : (Jvm.Cond.unhidden "java/util/ArrayList" "isEmpty" "()Z") ∈ lw_tbl := lw_at lw_m8 57 rfl
theorem q1992 : (Jvm.Cond.instanceMethod ({ cls := "java/util/ArrayList", name := "isEmpty", desc := "()Z" } : Jvm.MethodName)) ∈ lw_all := lw_g (lw_at lw_m8 58 rfl) rfl
theorem q1993 : (Jvm.Cond.publicMethod ({ cls := "java/util/ArrayList", name := "isEmpty", desc := "()Z" } : Jvm.MethodName)) ∈ lw_tbl := lw_at lw_m8 59 rfl
theorem q1994 : (Jvm.Cond.code ({ cls := "java/util/ArrayList", name := "isEmpty", desc := "()Z" } : Jvm.MethodName) prog_50_method_9_code (1 : Nat) (Option.some Jvm.ClassFile.FieldType.boolean)) ∈ lw_all := lw_g (lw_at lw_m8 60 rfl) rfl
theorem q1999 : (Jvm.Cond.selects "java/util/ArrayList" ({ cls := "java/util/List", name := "size", desc := "()I" } : Jvm.MethodName) ({ cls := "java/util/ArrayList", name := "size", desc := "()I" } : Jvm.MethodName)) ∈ lw_all := lw_g (lw_at lw_m8 65 rfl) rfl
theorem q2000 : (Jvm.Cond.unhidden "java/util/ArrayList" "size" "()I") ∈ lw_tbl := lw_at lw_m8 66 rfl
theorem q2001 : (Jvm.Cond.instanceMethod ({ cls := "java/util/ArrayList", name := "size", desc := "()I" } : Jvm.MethodName)) ∈ lw_all := lw_g (lw_at lw_m8 67 rfl) rfl
theorem q2002 : (Jvm.Cond.publicMethod ({ cls := "java/util/ArrayList", name := "size", desc := "()I" } : Jvm.MethodName)) ∈ lw_tbl := lw_at lw_m8 68 rfl
theorem q2003 : (Jvm.Cond.code ({ cls := "java/util/ArrayList", name := "size", desc := "()I" } : Jvm.MethodName) prog_50_method_8_code (1 : Nat) (Option.some Jvm.ClassFile.FieldType.int)) ∈ lw_all := lw_g (lw_at lw_m8 69 rfl) rfl
theorem q2008 : (Jvm.Cond.selects "java/util/ArrayList" ({ cls := "java/util/List", name := "get", desc := "(I)Ljava/lang/Object;" } : Jvm.MethodName) ({ cls := "java/util/ArrayList", name := "get", desc := "(I)Ljava/lang/Object;" } : Jvm.MethodName)) ∈ lw_all := lw_g (lw_at lw_m8 74 rfl) rfl
theorem q2009 : (Jvm.Cond.unhidden "java/util/ArrayList" "get" "(I)Ljava/lang/Object;") ∈ lw_tbl := lw_at lw_m8 75 rfl
theorem q2010 : (Jvm.Cond.instanceMethod ({ cls := "java/util/ArrayList", name := "get", desc := "(I)Ljava/lang/Object;" } : Jvm.MethodName)) ∈ lw_all := lw_g (lw_at lw_m8 76 rfl) rfl
theorem q2011 : (Jvm.Cond.publicMethod ({ cls := "java/util/ArrayList", name := "get", desc := "(I)Ljava/lang/Object;" } : Jvm.MethodName)) ∈ lw_tbl := lw_at lw_m8 77 rfl
theorem q2012 : (Jvm.Cond.code ({ cls := "java/util/ArrayList", name := "get", desc := "(I)Ljava/lang/Object;" } : Jvm.MethodName) prog_50_method_20_code (2 : Nat) (Option.some (Jvm.ClassFile.FieldType.object "java/lang/Object"))) ∈ lw_all := lw_g (lw_at lw_m8 78 rfl) rfl
theorem q2013 : (Jvm.Cond.methodLink "java/util/ArrayList" (118 : Nat) ({ cls := "java/util/Objects", name := "checkIndex", desc := "(II)I" } : Jvm.MethodName)) ∈ lw_all := lw_g (lw_at lw_m8 79 rfl) rfl
theorem q2017 : (Jvm.Cond.methodLink "java/util/ArrayList" (123 : Nat) ({ cls := "java/util/ArrayList", name := "elementData", desc := "(I)Ljava/lang/Object;" } : Jvm.MethodName)) ∈ lw_all := lw_g (lw_at lw_m8 83 rfl) rfl
theorem q2018 : (Jvm.Cond.instanceMethod ({ cls := "java/util/ArrayList", name := "elementData", desc := "(I)Ljava/lang/Object;" } : Jvm.MethodName)) ∈ lw_all := lw_g (lw_at lw_m8 84 rfl) rfl
theorem q2019 : (Jvm.Cond.selects "java/util/ArrayList" ({ cls := "java/util/ArrayList", name := "elementData", desc := "(I)Ljava/lang/Object;" } : Jvm.MethodName) ({ cls := "java/util/ArrayList", name := "elementData", desc := "(I)Ljava/lang/Object;" } : Jvm.MethodName)) ∈ lw_all := lw_g (lw_at lw_m8 85 rfl) rfl
theorem q2020 : (Jvm.Cond.code ({ cls := "java/util/ArrayList", name := "elementData", desc := "(I)Ljava/lang/Object;" } : Jvm.MethodName) prog_50_method_18_code (2 : Nat) (Option.some (Jvm.ClassFile.FieldType.object "java/lang/Object"))) ∈ lw_all := lw_g (lw_at lw_m8 86 rfl) rfl
theorem q2308 : (Jvm.Cond.selects "java/util/ArrayList" ({ cls := "java/util/List", name := "remove", desc := "(I)Ljava/lang/Object;" } : Jvm.MethodName) ({ cls := "java/util/ArrayList", name := "remove", desc := "(I)Ljava/lang/Object;" } : Jvm.MethodName)) ∈ lw_all := lw_g (lw_at lw_m9 134 rfl) rfl
theorem q2309 : (Jvm.Cond.unhidden "java/util/ArrayList" "remove" "(I)Ljava/lang/Object;") ∈ lw_tbl := lw_at lw_m9 135 rfl
theorem q2310 : (Jvm.Cond.instanceMethod ({ cls := "java/util/ArrayList", name := "remove", desc := "(I)Ljava/lang/Object;" } : Jvm.MethodName)) ∈ lw_all := lw_g (lw_at lw_m9 136 rfl) rfl
theorem q2311 : (Jvm.Cond.publicMethod ({ cls := "java/util/ArrayList", name := "remove", desc := "(I)Ljava/lang/Object;" } : Jvm.MethodName)) ∈ lw_tbl := lw_at lw_m9 137 rfl
theorem q2312 : (Jvm.Cond.code ({ cls := "java/util/ArrayList", name := "remove", desc := "(I)Ljava/lang/Object;" } : Jvm.MethodName) prog_50_method_29_code (4 : Nat) (Option.some (Jvm.ClassFile.FieldType.object "java/lang/Object"))) ∈ lw_all := lw_g (lw_at lw_m9 138 rfl) rfl
theorem q2313 : (Jvm.Cond.methodLink "java/util/ArrayList" (144 : Nat) ({ cls := "java/util/ArrayList", name := "fastRemove", desc := "([Ljava/lang/Object;I)V" } : Jvm.MethodName)) ∈ lw_all := lw_g (lw_at lw_m9 139 rfl) rfl
theorem q2314 : (Jvm.Cond.privateMethod ({ cls := "java/util/ArrayList", name := "fastRemove", desc := "([Ljava/lang/Object;I)V" } : Jvm.MethodName)) ∈ lw_tbl := lw_at lw_m9 140 rfl
theorem q2315 : (Jvm.Cond.instanceMethod ({ cls := "java/util/ArrayList", name := "fastRemove", desc := "([Ljava/lang/Object;I)V" } : Jvm.MethodName)) ∈ lw_all := lw_g (lw_at lw_m9 141 rfl) rfl
theorem q2316 : (Jvm.Cond.code ({ cls := "java/util/ArrayList", name := "fastRemove", desc := "([Ljava/lang/Object;I)V" } : Jvm.MethodName) prog_50_method_39_code (4 : Nat) (Option.none : Option Jvm.ClassFile.FieldType)) ∈ lw_all := lw_g (lw_at lw_m9 142 rfl) rfl
theorem q2317 : (Jvm.Cond.methodLink "java/util/ArrayList" (112 : Nat) ({ cls := "java/lang/System", name := "arraycopy", desc := "(Ljava/lang/Object;ILjava/lang/Object;II)V" } : Jvm.MethodName)) ∈ lw_all := lw_g (lw_at lw_m9 143 rfl) rfl
theorem q2327 : (Jvm.Cond.selects "java/util/ArrayList" ({ cls := "java/util/List", name := "contains", desc := "(Ljava/lang/Object;)Z" } : Jvm.MethodName) ({ cls := "java/util/ArrayList", name := "contains", desc := "(Ljava/lang/Object;)Z" } : Jvm.MethodName)) ∈ lw_all := lw_g (lw_at lw_m9 153 rfl) rfl
theorem q2328 : (Jvm.Cond.unhidden "java/util/ArrayList" "contains" "(Ljava/lang/Object;)Z") ∈ lw_tbl := lw_at lw_m9 154 rfl
theorem q2329 : (Jvm.Cond.instanceMethod ({ cls := "java/util/ArrayList", name := "contains", desc := "(Ljava/lang/Object;)Z" } : Jvm.MethodName)) ∈ lw_all := lw_g (lw_at lw_m9 155 rfl) rfl
theorem q2330 : (Jvm.Cond.publicMethod ({ cls := "java/util/ArrayList", name := "contains", desc := "(Ljava/lang/Object;)Z" } : Jvm.MethodName)) ∈ lw_tbl := lw_at lw_m9 156 rfl
theorem q2331 : (Jvm.Cond.code ({ cls := "java/util/ArrayList", name := "contains", desc := "(Ljava/lang/Object;)Z" } : Jvm.MethodName) prog_50_method_10_code (2 : Nat) (Option.some Jvm.ClassFile.FieldType.boolean)) ∈ lw_all := lw_g (lw_at lw_m9 157 rfl) rfl
theorem q2332 : (Jvm.Cond.methodLink "java/util/ArrayList" (85 : Nat) ({ cls := "java/util/ArrayList", name := "indexOf", desc := "(Ljava/lang/Object;)I" } : Jvm.MethodName)) ∈ lw_all := lw_g (lw_at lw_m9 158 rfl) rfl
theorem q2333 : (Jvm.Cond.instanceMethod ({ cls := "java/util/ArrayList", name := "indexOf", desc := "(Ljava/lang/Object;)I" } : Jvm.MethodName)) ∈ lw_all := lw_g (lw_at lw_m9 159 rfl) rfl
theorem q2334 : (Jvm.Cond.selects "java/util/ArrayList" ({ cls := "java/util/ArrayList", name := "indexOf", desc := "(Ljava/lang/Object;)I" } : Jvm.MethodName) ({ cls := "java/util/ArrayList", name := "indexOf", desc := "(Ljava/lang/Object;)I" } : Jvm.MethodName)) ∈ lw_all := lw_g (lw_at lw_m9 160 rfl) rfl
theorem q2335 : (Jvm.Cond.code ({ cls := "java/util/ArrayList", name := "indexOf", desc := "(Ljava/lang/Object;)I" } : Jvm.MethodName) prog_50_method_11_code (2 : Nat) (Option.some Jvm.ClassFile.FieldType.int)) ∈ lw_all := lw_g (lw_at lw_m9 161 rfl) rfl
theorem q2336 : (Jvm.Cond.methodLink "java/util/ArrayList" (89 : Nat) ({ cls := "java/util/ArrayList", name := "indexOfRange", desc := "(Ljava/lang/Object;II)I" } : Jvm.MethodName)) ∈ lw_all := lw_g (lw_at lw_m9 162 rfl) rfl
theorem q2337 : (Jvm.Cond.instanceMethod ({ cls := "java/util/ArrayList", name := "indexOfRange", desc := "(Ljava/lang/Object;II)I" } : Jvm.MethodName)) ∈ lw_all := lw_g (lw_at lw_m9 163 rfl) rfl
theorem q2338 : (Jvm.Cond.selects "java/util/ArrayList" ({ cls := "java/util/ArrayList", name := "indexOfRange", desc := "(Ljava/lang/Object;II)I" } : Jvm.MethodName) ({ cls := "java/util/ArrayList", name := "indexOfRange", desc := "(Ljava/lang/Object;II)I" } : Jvm.MethodName)) ∈ lw_all := lw_g (lw_at lw_m9 164 rfl) rfl
theorem q2339 : (Jvm.Cond.code ({ cls := "java/util/ArrayList", name := "indexOfRange", desc := "(Ljava/lang/Object;II)I" } : Jvm.MethodName) prog_50_method_12_code (6 : Nat) (Option.some Jvm.ClassFile.FieldType.int)) ∈ lw_all := lw_g (lw_at lw_m9 165 rfl) rfl
theorem q2340 : (Jvm.Cond.methodLink "java/util/ArrayList" (93 : Nat) ({ cls := "java/lang/Object", name := "equals", desc := "(Ljava/lang/Object;)Z" } : Jvm.MethodName)) ∈ lw_all := lw_g (lw_at lw_m9 166 rfl) rfl
theorem q4343 : (Jvm.Cond.castable "java/util/ArrayList" "java/lang/Object") ∈ lw_tbl := lw_at lw_m18 9 rfl
theorem in_J19 : ∀ w ∈ wsJ190, w ∈ lw_all := lw_in wsJ190 [1420, 1416, 1418] (by decide +kernel) (by decide +kernel)
/-! java/lang/AbstractStringBuilder -/
set_option maxRecDepth 100000
def RJ20 : String := "java/lang/AbstractStringBuilder"
abbrev cJ20_compareTo : ByteArray := prog_22_method_5_code
def yJ20_compareTo : MethodName := ⟨RJ20, "compareTo", "(Ljava/lang/AbstractStringBuilder;)I"⟩
abbrev cJ20_isLatin1 : ByteArray := prog_22_method_68_code
def yJ20_isLatin1 : MethodName := ⟨RJ20, "isLatin1", "()Z"⟩
abbrev cJ20_init : ByteArray := prog_22_method_2_code
def yJ20_init : MethodName := ⟨RJ20, "<init>", "(I)V"⟩
abbrev cJ20_setLength : ByteArray := prog_22_method_13_code
def yJ20_setLength : MethodName := ⟨RJ20, "setLength", "(I)V"⟩
abbrev cJ20_ensureCapacityInternal : ByteArray := prog_22_method_9_code
def yJ20_ensureCapacityInternal : MethodName := ⟨RJ20, "ensureCapacityInternal", "(I)V"⟩
abbrev cJ20_newCapacity : ByteArray := prog_22_method_10_code
def yJ20_newCapacity : MethodName := ⟨RJ20, "newCapacity", "(I)I"⟩
abbrev cJ20_append : ByteArray := prog_22_method_31_code
def yJ20_append : MethodName := ⟨RJ20, "append", "(C)Ljava/lang/AbstractStringBuilder;"⟩
abbrev cJ20_inflate : ByteArray := prog_22_method_11_code
def yJ20_inflate : MethodName := ⟨RJ20, "inflate", "()V"⟩
abbrev cJ20_length : ByteArray := prog_22_method_6_code
def yJ20_length : MethodName := ⟨RJ20, "length", "()I"⟩
abbrev cJ20_getValue : ByteArray := prog_22_method_64_code
def yJ20_getValue : MethodName := ⟨RJ20, "getValue", "()[B"⟩
theorem q288 : (Jvm.Cond.initialized "java/lang/AbstractStringBuilder") ∈ lw_all := lw_g (lw_at lw_m1 34 rfl) rfl
theorem q1061 : (Jvm.Cond.instanceMethod ({ cls := "java/lang/AbstractStringBuilder", name := "compareTo", desc := "(Ljava/lang/AbstractStringBuilder;)I" } : Jvm.MethodName)) ∈ lw_all := lw_g (lw_at lw_m4 87 rfl) rfl
theorem q1062 : (Jvm.Cond.code ({ cls := "java/lang/AbstractStringBuilder", name := "compareTo", desc := "(Ljava/lang/AbstractStringBuilder;)I" } : Jvm.MethodName) prog_22_method_5_code (6 : Nat) (Option.some Jvm.ClassFile.FieldType.int)) ∈ lw_all := lw_g (lw_at lw_m4 88 rfl) rfl
theorem q1063 : (Jvm.Cond.methodLink "java/lang/AbstractStringBuilder" (83 : Nat) ({ cls := "java/lang/AbstractStringBuilder", name := "isLatin1", desc := "()Z" } : Jvm.MethodName)) ∈ lw_all := lw_g (lw_at lw_m4 89 rfl) rfl
theorem q1064 : (Jvm.Cond.instanceMethod ({ cls := "java/lang/AbstractStringBuilder", name := "isLatin1", desc := "()Z" } : Jvm.MethodName)) ∈ lw_all := lw_g (lw_at lw_m4 90 rfl) rfl
theorem q1065 : (Jvm.Cond.sameMethod "java/lang/AbstractStringBuilder" "java/lang/AbstractStringBuilder" "isLatin1" "()Z") ∈ lw_all := lw_g (lw_at lw_m4 91 rfl) rfl
theorem q1067 : (Jvm.Cond.code ({ cls := "java/lang/AbstractStringBuilder", name := "isLatin1", desc := "()Z" } : Jvm.MethodName) prog_22_method_68_code (1 : Nat) (Option.some Jvm.ClassFile.FieldType.boolean)) ∈ lw_all := lw_g (lw_at lw_m4 93 rfl) rfl
theorem q1068 : (Jvm.Cond.fieldLink "java/lang/AbstractStringBuilder" (18 : Nat) "java/lang/String" "COMPACT_STRINGS" "Z") ∈ lw_all := lw_g (lw_at lw_m4 94 rfl) rfl
theorem q1069 : (Jvm.Cond.methodLink "java/lang/AbstractStringBuilder" (87 : Nat) ({ cls := "java/lang/StringLatin1", name := "compareTo", desc := "([B[BII)I" } : Jvm.MethodName)) ∈ lw_all := lw_g (lw_at lw_m4 95 rfl) rfl
theorem q1070 : (Jvm.Cond.methodLink "java/lang/AbstractStringBuilder" (93 : Nat) ({ cls := "java/lang/StringUTF16", name := "compareTo", desc := "([B[BII)I" } : Jvm.MethodName)) ∈ lw_all := lw_g (lw_at lw_m4 96 rfl) rfl
theorem q1079 : (Jvm.Cond.methodLink "java/lang/AbstractStringBuilder" (94 : Nat) ({ cls := "java/lang/StringLatin1", name := "compareToUTF16", desc := "([B[BII)I" } : Jvm.MethodName)) ∈ lw_all := lw_g (lw_at lw_m4 105 rfl) rfl
theorem q1083 : (Jvm.Cond.methodLink "java/lang/AbstractStringBuilder" (97 : Nat) ({ cls := "java/lang/StringUTF16", name := "compareToLatin1", desc := "([B[BII)I" } : Jvm.MethodName)) ∈ lw_all := lw_g (lw_at lw_m4 109 rfl) rfl
theorem q1535 : (Jvm.Cond.instanceMethod ({ cls := "java/lang/AbstractStringBuilder", name := "<init>", desc := "(I)V" } : Jvm.MethodName)) ∈ lw_all := lw_g (lw_at lw_m6 81 rfl) rfl
theorem q1536 : (Jvm.Cond.code ({ cls := "java/lang/AbstractStringBuilder", name := "<init>", desc := "(I)V" } : Jvm.MethodName) prog_22_method_2_code (2 : Nat) (Option.none : Option Jvm.ClassFile.FieldType)) ∈ lw_all := lw_g (lw_at lw_m6 82 rfl) rfl
theorem q1537 : (Jvm.Cond.methodLink "java/lang/AbstractStringBuilder" (3 : Nat) ({ cls := "java/lang/Object", name := "<init>", desc := "()V" } : Jvm.MethodName)) ∈ lw_all := lw_g (lw_at lw_m6 83 rfl) rfl
theorem q1538 : (Jvm.Cond.methodLink "java/lang/AbstractStringBuilder" (26 : Nat) ({ cls := "java/lang/StringUTF16", name := "newBytesFor", desc := "(I)[B" } : Jvm.MethodName)) ∈ lw_all := lw_g (lw_at lw_m6 84 rfl) rfl
theorem q1541 : (Jvm.Cond.fieldLink "java/lang/AbstractStringBuilder" (15 : Nat) "java/lang/AbstractStringBuilder" "value" "[B") ∈ lw_all := lw_g (lw_at lw_m6 87 rfl) rfl
theorem q1542 : (Jvm.Cond.fieldLink "java/lang/AbstractStringBuilder" (22 : Nat) "java/lang/AbstractStringBuilder" "coder" "B") ∈ lw_all := lw_g (lw_at lw_m6 88 rfl) rfl
theorem q1543 : (Jvm.Cond.fieldLink "java/lang/AbstractStringBuilder" (73 : Nat) "java/lang/AbstractStringBuilder" "maybeLatin1" "Z") ∈ lw_all := lw_g (lw_at lw_m6 89 rfl) rfl
theorem q1545 : (Jvm.Cond.fieldLink "java/lang/AbstractStringBuilder" (79 : Nat) "java/lang/AbstractStringBuilder" "count" "I") ∈ lw_all := lw_g (lw_at lw_m6 91 rfl) rfl
theorem q1547 : (Jvm.Cond.soleField "java/lang/AbstractStringBuilder" "value") ∈ lw_all := lw_g (lw_at lw_m6 93 rfl) rfl
theorem q1549 : (Jvm.Cond.soleField "java/lang/AbstractStringBuilder" "coder") ∈ lw_all := lw_g (lw_at lw_m6 95 rfl) rfl
theorem q1551 : (Jvm.Cond.soleField "java/lang/AbstractStringBuilder" "maybeLatin1") ∈ lw_all := lw_g (lw_at lw_m6 97 rfl) rfl
theorem q1553 : (Jvm.Cond.soleField "java/lang/AbstractStringBuilder" "count") ∈ lw_all := lw_g (lw_at lw_m6 99 rfl) rfl
theorem q1672 : (Jvm.Cond.instanceMethod ({ cls := "java/lang/AbstractStringBuilder", name := "setLength", desc := "(I)V" } : Jvm.MethodName)) ∈ lw_all := lw_g (lw_at lw_m6 218 rfl) rfl
theorem q1673 : (Jvm.Cond.code ({ cls := "java/lang/AbstractStringBuilder", name := "setLength", desc := "(I)V" } : Jvm.MethodName) prog_22_method_13_code (2 : Nat) (Option.none : Option Jvm.ClassFile.FieldType)) ∈ lw_all := lw_g (lw_at lw_m6 219 rfl) rfl
theorem q1674 : (Jvm.Cond.methodLink "java/lang/AbstractStringBuilder" (100 : Nat) ({ cls := "java/lang/AbstractStringBuilder", name := "ensureCapacityInternal", desc := "(I)V" } : Jvm.MethodName)) ∈ lw_all := lw_g (lw_at lw_m6 220 rfl) rfl
theorem q1675 : (Jvm.Cond.privateMethod ({ cls := "java/lang/AbstractStringBuilder", name := "ensureCapacityInternal", desc := "(I)V" } : Jvm.MethodName)) ∈ lw_tbl := lw_at lw_m6 221 rfl
theorem q1676 : (Jvm.Cond.instanceMethod ({ cls := "java/lang/AbstractStringBuilder", name := "ensureCapacityInternal", desc := "(I)V" } : Jvm.MethodName)) ∈ lw_all := lw_g (lw_at lw_m6 222 rfl) rfl
theorem q1677 : (Jvm.Cond.code ({ cls := "java/lang/AbstractStringBuilder", name := "ensureCapacityInternal", desc := "(I)V" } : Jvm.MethodName) prog_22_method_9_code (3 : Nat) (Option.none : Option Jvm.ClassFile.FieldType)) ∈ lw_all := lw_g (lw_at lw_m6 223 rfl) rfl
theorem q1678 : (Jvm.Cond.methodLink "java/lang/AbstractStringBuilder" (104 : Nat) ({ cls := "java/lang/AbstractStringBuilder", name := "newCapacity", desc := "(I)I" } : Jvm.MethodName)) ∈ lw_all := lw_g (lw_at lw_m6 224 rfl) rfl
theorem q1679 : (Jvm.Cond.privateMethod ({ cls := "java/lang/AbstractStringBuilder", name := "newCapacity", desc := "(I)I" } : Jvm.MethodName)) ∈ lw_tbl := lw_at lw_m6 225 rfl
theorem q1680 : (Jvm.Cond.instanceMethod ({ cls := "java/lang/AbstractStringBuilder", name := "newCapacity", desc := "(I)I" } : Jvm.MethodName)) ∈ lw_all := lw_g (lw_at lw_m6 226 rfl) rfl
theorem q1681 : (Jvm.Cond.code ({ cls := "java/lang/AbstractStringBuilder", name := "newCapacity", desc := "(I)I" } : Jvm.MethodName) prog_22_method_10_code (6 : Nat) (Option.some Jvm.ClassFile.FieldType.int)) ∈ lw_all := lw_g (lw_at lw_m6 227 rfl) rfl
theorem q1682 : (Jvm.Cond.methodLink "java/lang/AbstractStringBuilder" (114 : Nat) ({ cls := "jdk/internal/util/ArraysSupport", name := "newLength", desc := "(III)I" } : Jvm.MethodName)) ∈ lw_all := lw_g (lw_at lw_m6 228 rfl) rfl
theorem q1683 : (Jvm.Cond.constant "java/lang/AbstractStringBuilder" (39 : Nat) (2147483647 : Int32)) ∈ lw_all := lw_g (lw_at lw_m6 229 rfl) rfl
theorem q1684 : (Jvm.Cond.methodLink "java/lang/AbstractStringBuilder" (108 : Nat) ({ cls := "java/util/Arrays", name := "copyOf", desc := "([BI)[B" } : Jvm.MethodName)) ∈ lw_all := lw_g (lw_at lw_m6 230 rfl) rfl
theorem q1687 : (Jvm.Cond.methodLink "java/lang/AbstractStringBuilder" (133 : Nat) ({ cls := "java/lang/StringLatin1", name := "fillNull", desc := "([BII)V" } : Jvm.MethodName)) ∈ lw_all := lw_g (lw_at lw_m6 233 rfl) rfl
theorem q1696 : (Jvm.Cond.methodLink "java/lang/AbstractStringBuilder" (137 : Nat) ({ cls := "java/lang/StringUTF16", name := "fillNull", desc := "([BII)V" } : Jvm.MethodName)) ∈ lw_all := lw_g (lw_at lw_m7 2 rfl) rfl
theorem q1708 : (Jvm.Cond.instanceMethod ({ cls := "java/lang/AbstractStringBuilder", name := "append", desc := "(C)Ljava/lang/AbstractStringBuilder;" } : Jvm.MethodName)) ∈ lw_all := lw_g (lw_at lw_m7 14 rfl) rfl
theorem q1709 : (Jvm.Cond.code ({ cls := "java/lang/AbstractStringBuilder", name := "append", desc := "(C)Ljava/lang/AbstractStringBuilder;" } : Jvm.MethodName) prog_22_method_31_code (2 : Nat) (Option.some (Jvm.ClassFile.FieldType.object "java/lang/AbstractStringBuilder"))) ∈ lw_all := lw_g (lw_at lw_m7 15 rfl) rfl
theorem q1710 : (Jvm.Cond.methodLink "java/lang/AbstractStringBuilder" (191 : Nat) ({ cls := "java/lang/StringLatin1", name := "canEncode", desc := "(C)Z" } : Jvm.MethodName)) ∈ lw_all := lw_g (lw_at lw_m7 16 rfl) rfl
theorem q1713 : (Jvm.Cond.methodLink "java/lang/AbstractStringBuilder" (195 : Nat) ({ cls := "java/lang/AbstractStringBuilder", name := "inflate", desc := "()V" } : Jvm.MethodName)) ∈ lw_all := lw_g (lw_at lw_m7 19 rfl) rfl
theorem q1714 : (Jvm.Cond.privateMethod ({ cls := "java/lang/AbstractStringBuilder", name := "inflate", desc := "()V" } : Jvm.MethodName)) ∈ lw_tbl := lw_at lw_m7 20 rfl
theorem q1715 : (Jvm.Cond.instanceMethod ({ cls := "java/lang/AbstractStringBuilder", name := "inflate", desc := "()V" } : Jvm.MethodName)) ∈ lw_all := lw_g (lw_at lw_m7 21 rfl) rfl
theorem q1716 : (Jvm.Cond.code ({ cls := "java/lang/AbstractStringBuilder", name := "inflate", desc := "()V" } : Jvm.MethodName) prog_22_method_11_code (2 : Nat) (Option.none : Option Jvm.ClassFile.FieldType)) ∈ lw_all := lw_g (lw_at lw_m7 22 rfl) rfl
theorem q1717 : (Jvm.Cond.methodLink "java/lang/AbstractStringBuilder" (125 : Nat) ({ cls := "java/lang/StringLatin1", name := "inflate", desc := "([BI[BII)V" } : Jvm.MethodName)) ∈ lw_all := lw_g (lw_at lw_m7 23 rfl) rfl
theorem q1726 : (Jvm.Cond.methodLink "java/lang/AbstractStringBuilder" (197 : Nat) ({ cls := "java/lang/StringUTF16", name := "putCharSB", desc := "([BII)V" } : Jvm.MethodName)) ∈ lw_all := lw_g (lw_at lw_m7 32 rfl) rfl
theorem q1734 : (Jvm.Cond.instanceMethod ({ cls := "java/lang/AbstractStringBuilder", name := "length", desc := "()I" } : Jvm.MethodName)) ∈ lw_all := lw_g (lw_at lw_m7 40 rfl) rfl
theorem q1735 : (Jvm.Cond.code ({ cls := "java/lang/AbstractStringBuilder", name := "length", desc := "()I" } : Jvm.MethodName) prog_22_method_6_code (1 : Nat) (Option.some Jvm.ClassFile.FieldType.int)) ∈ lw_all := lw_g (lw_at lw_m7 41 rfl) rfl
theorem q1819 : (Jvm.Cond.instanceMethod ({ cls := "java/lang/AbstractStringBuilder", name := "getValue", desc := "()[B" } : Jvm.MethodName)) ∈ lw_all := lw_g (lw_at lw_m7 125 rfl) rfl
theorem q1820 : (Jvm.Cond.sameMethod "java/lang/AbstractStringBuilder" "java/lang/AbstractStringBuilder" "getValue" "()[B") ∈ lw_all := lw_g (lw_at lw_m7 126 rfl) rfl
theorem q1822 : (Jvm.Cond.code ({ cls := "java/lang/AbstractStringBuilder", name := "getValue", desc := "()[B" } : Jvm.MethodName) prog_22_method_64_code (1 : Nat) (Option.some (Jvm.ClassFile.FieldType.array Jvm.ClassFile.FieldType.byte))) ∈ lw_all := lw_g (lw_at lw_m7 128 rfl) rfl
theorem q4308 : (Jvm.Cond.sameMethod "java/lang/AbstractStringBuilder" "java/lang/AbstractStringBuilder" "compareTo" "(Ljava/lang/AbstractStringBuilder;)I") ∈ lw_all := lw_g (lw_at lw_m17 214 rfl) rfl
theorem q4311 : (Jvm.Cond.sameMethod "java/lang/AbstractStringBuilder" "java/lang/AbstractStringBuilder" "setLength" "(I)V") ∈ lw_all := lw_g (lw_at lw_m17 217 rfl) rfl
theorem q4312 : (Jvm.Cond.sameMethod "java/lang/AbstractStringBuilder" "java/lang/AbstractStringBuilder" "ensureCapacityInternal" "(I)V") ∈ lw_all := lw_g (lw_at lw_m17 218 rfl) rfl
theorem q4313 : (Jvm.Cond.sameMethod "java/lang/AbstractStringBuilder" "java/lang/AbstractStringBuilder" "newCapacity" "(I)I") ∈ lw_all := lw_g (lw_at lw_m17 219 rfl) rfl
theorem q4314 : (Jvm.Cond.sameMethod "java/lang/AbstractStringBuilder" "java/lang/AbstractStringBuilder" "append" "(C)Ljava/lang/AbstractStringBuilder;") ∈ lw_all := lw_g (lw_at lw_m17 220 rfl) rfl
theorem q4315 : (Jvm.Cond.sameMethod "java/lang/AbstractStringBuilder" "java/lang/AbstractStringBuilder" "inflate" "()V") ∈ lw_all := lw_g (lw_at lw_m17 221 rfl) rfl
theorem q4316 : (Jvm.Cond.sameMethod "java/lang/AbstractStringBuilder" "java/lang/AbstractStringBuilder" "length" "()I") ∈ lw_all := lw_g (lw_at lw_m17 222 rfl) rfl
/-! java/lang/StringBuilder -/
set_option maxRecDepth 100000
def RJ21 : String := "java/lang/StringBuilder"
def TJ21 : u_T := fun k => match k with
  | 0 => ("java/lang/AbstractStringBuilder", "value", "[B", false)
  | 1 => ("java/lang/AbstractStringBuilder", "coder", "B", false)
  | 2 => ("java/lang/AbstractStringBuilder", "maybeLatin1", "Z", false)
  | _ => ("java/lang/AbstractStringBuilder", "count", "I", false)
def tyJ21 : Nat → FieldType := fun k => match k with
  | 0 => .array .byte
  | 1 => .byte
  | 2 => .boolean
  | _ => .int
abbrev wsJ210 : List Cond := u_ws RJ21 TJ21 4
theorem nmJ21 : ∀ a, a < 4 → ∀ b, b < 4 → a ≠ b → (TJ21 a).2.1 ≠ (TJ21 b).2.1 := by decide +kernel
theorem tyJ21_ok : ∀ k, k < 4 → parseFieldDescriptor (TJ21 k).2.2.1 = some (tyJ21 k) := by decide +kernel
abbrev cJ21_compareTo : ByteArray := prog_38_method_97_code
def yJ21_compareTo : MethodName := ⟨RJ21, "compareTo", "(Ljava/lang/Object;)I"⟩
abbrev cJ21_compareTo_2 : ByteArray := prog_38_method_5_code
def yJ21_compareTo_2 : MethodName := ⟨RJ21, "compareTo", "(Ljava/lang/StringBuilder;)I"⟩
abbrev cJ21_init : ByteArray := prog_38_method_1_code
def yJ21_init : MethodName := ⟨RJ21, "<init>", "()V"⟩
abbrev cJ21_setLength : ByteArray := prog_38_method_89_code
def yJ21_setLength : MethodName := ⟨RJ21, "setLength", "(I)V"⟩
abbrev cJ21_append : ByteArray := prog_38_method_14_code
def yJ21_append : MethodName := ⟨RJ21, "append", "(C)Ljava/lang/StringBuilder;"⟩
abbrev cJ21_length : ByteArray := prog_38_method_93_code
def yJ21_length : MethodName := ⟨RJ21, "length", "()I"⟩
abbrev cJ21_toString : ByteArray := prog_38_method_42_code
def yJ21_toString : MethodName := ⟨RJ21, "toString", "()Ljava/lang/String;"⟩
theorem q289 : (Jvm.Cond.initialized "java/lang/StringBuilder") ∈ lw_all := lw_g (lw_at lw_m1 35 rfl) rfl
theorem q753 : (Jvm.Cond.selects "java/lang/StringBuilder" ({ cls := "java/lang/Object", name := "hashCode", desc := "()I" } : Jvm.MethodName) ({ cls := "java/lang/Object", name := "hashCode", desc := "()I" } : Jvm.MethodName)) ∈ lw_all := lw_g (lw_at lw_m3 19 rfl) rfl
theorem q846 : (Jvm.Cond.selects "java/lang/StringBuilder" ({ cls := "java/lang/Object", name := "getClass", desc := "()Ljava/lang/Class;" } : Jvm.MethodName) ({ cls := "java/lang/Object", name := "getClass", desc := "()Ljava/lang/Class;" } : Jvm.MethodName)) ∈ lw_all := lw_g (lw_at lw_m3 112 rfl) rfl
theorem q1048 : (Jvm.Cond.castable "java/lang/StringBuilder" "java/lang/Comparable") ∈ lw_tbl := lw_at lw_m4 74 rfl
theorem q1049 : (Jvm.Cond.selects "java/lang/StringBuilder" ({ cls := "java/lang/Comparable", name := "compareTo", desc := "(Ljava/lang/Object;)I" } : Jvm.MethodName) ({ cls := "java/lang/StringBuilder", name := "compareTo", desc := "(Ljava/lang/Object;)I" } : Jvm.MethodName)) ∈ lw_all := lw_g (lw_at lw_m4 75 rfl) rfl
theorem q1050 : (Jvm.Cond.unhidden "java/lang/StringBuilder" "compareTo" "(Ljava/lang/Object;)I") ∈ lw_tbl := lw_at lw_m4 76 rfl
theorem q1051 : (Jvm.Cond.instanceMethod ({ cls := "java/lang/StringBuilder", name := "compareTo", desc := "(Ljava/lang/Object;)I" } : Jvm.MethodName)) ∈ lw_all := lw_g (lw_at lw_m4 77 rfl) rfl
theorem q1052 : (Jvm.Cond.publicMethod ({ cls := "java/lang/StringBuilder", name := "compareTo", desc := "(Ljava/lang/Object;)I" } : Jvm.MethodName)) ∈ lw_tbl := lw_at lw_m4 78 rfl
theorem q1053 : (Jvm.Cond.code ({ cls := "java/lang/StringBuilder", name := "compareTo", desc := "(Ljava/lang/Object;)I" } : Jvm.MethodName) prog_38_method_97_code (2 : Nat) (Option.some Jvm.ClassFile.FieldType.int)) ∈ lw_all := lw_g (lw_at lw_m4 79 rfl) rfl
theorem q1054 : (Jvm.Cond.classLink "java/lang/StringBuilder" (24 : Nat) "java/lang/StringBuilder") ∈ lw_all := lw_g (lw_at lw_m4 80 rfl) rfl
theorem q1055 : (Jvm.Cond.methodLink "java/lang/StringBuilder" (346 : Nat) ({ cls := "java/lang/StringBuilder", name := "compareTo", desc := "(Ljava/lang/StringBuilder;)I" } : Jvm.MethodName)) ∈ lw_all := lw_g (lw_at lw_m4 81 rfl) rfl
theorem q1056 : (Jvm.Cond.instanceMethod ({ cls := "java/lang/StringBuilder", name := "compareTo", desc := "(Ljava/lang/StringBuilder;)I" } : Jvm.MethodName)) ∈ lw_all := lw_g (lw_at lw_m4 82 rfl) rfl
theorem q1057 : (Jvm.Cond.selects "java/lang/StringBuilder" ({ cls := "java/lang/StringBuilder", name := "compareTo", desc := "(Ljava/lang/StringBuilder;)I" } : Jvm.MethodName) ({ cls := "java/lang/StringBuilder", name := "compareTo", desc := "(Ljava/lang/StringBuilder;)I" } : Jvm.MethodName)) ∈ lw_all := lw_g (lw_at lw_m4 83 rfl) rfl
theorem q1058 : (Jvm.Cond.code ({ cls := "java/lang/StringBuilder", name := "compareTo", desc := "(Ljava/lang/StringBuilder;)I" } : Jvm.MethodName) prog_38_method_5_code (2 : Nat) (Option.some Jvm.ClassFile.FieldType.int)) ∈ lw_all := lw_g (lw_at lw_m4 84 rfl) rfl
theorem q1059 : (Jvm.Cond.methodLink "java/lang/StringBuilder" (13 : Nat) ({ cls := "java/lang/AbstractStringBuilder", name := "compareTo", desc := "(Ljava/lang/AbstractStringBuilder;)I" } : Jvm.MethodName)) ∈ lw_all := lw_g (lw_at lw_m4 85 rfl) rfl
theorem q1060 : (Jvm.Cond.superclass "java/lang/StringBuilder" "java/lang/AbstractStringBuilder") ∈ lw_all := lw_g (lw_at lw_m4 86 rfl) rfl
theorem q1066 : (Jvm.Cond.selects "java/lang/StringBuilder" ({ cls := "java/lang/AbstractStringBuilder", name := "isLatin1", desc := "()Z" } : Jvm.MethodName) ({ cls := "java/lang/AbstractStringBuilder", name := "isLatin1", desc := "()Z" } : Jvm.MethodName)) ∈ lw_all := lw_g (lw_at lw_m4 92 rfl) rfl
theorem q1143 : (Jvm.Cond.selects "java/lang/StringBuilder" ({ cls := "java/lang/Object", name := "equals", desc := "(Ljava/lang/Object;)Z" } : Jvm.MethodName) ({ cls := "java/lang/Object", name := "equals", desc := "(Ljava/lang/Object;)Z" } : Jvm.MethodName)) ∈ lw_all := lw_g (lw_at lw_m4 169 rfl) rfl
theorem q1530 : (Jvm.Cond.instantiable "java/lang/StringBuilder" (4 : Nat)) ∈ lw_all := lw_g (lw_at lw_m6 76 rfl) rfl
theorem q1532 : (Jvm.Cond.instanceMethod ({ cls := "java/lang/StringBuilder", name := "<init>", desc := "()V" } : Jvm.MethodName)) ∈ lw_all := lw_g (lw_at lw_m6 78 rfl) rfl
theorem q1533 : (Jvm.Cond.code ({ cls := "java/lang/StringBuilder", name := "<init>", desc := "()V" } : Jvm.MethodName) prog_38_method_1_code (1 : Nat) (Option.none : Option Jvm.ClassFile.FieldType)) ∈ lw_all := lw_g (lw_at lw_m6 79 rfl) rfl
theorem q1534 : (Jvm.Cond.methodLink "java/lang/StringBuilder" (1 : Nat) ({ cls := "java/lang/AbstractStringBuilder", name := "<init>", desc := "(I)V" } : Jvm.MethodName)) ∈ lw_all := lw_g (lw_at lw_m6 80 rfl) rfl
theorem q1546 : (Jvm.Cond.lays "java/lang/StringBuilder" "java/lang/AbstractStringBuilder" "value" "[B") ∈ lw_all := lw_g (lw_at lw_m6 92 rfl) rfl
theorem q1548 : (Jvm.Cond.lays "java/lang/StringBuilder" "java/lang/AbstractStringBuilder" "coder" "B") ∈ lw_all := lw_g (lw_at lw_m6 94 rfl) rfl
theorem q1550 : (Jvm.Cond.lays "java/lang/StringBuilder" "java/lang/AbstractStringBuilder" "maybeLatin1" "Z") ∈ lw_all := lw_g (lw_at lw_m6 96 rfl) rfl
theorem q1552 : (Jvm.Cond.lays "java/lang/StringBuilder" "java/lang/AbstractStringBuilder" "count" "I") ∈ lw_all := lw_g (lw_at lw_m6 98 rfl) rfl
theorem q1668 : (Jvm.Cond.instanceMethod ({ cls := "java/lang/StringBuilder", name := "setLength", desc := "(I)V" } : Jvm.MethodName)) ∈ lw_all := lw_g (lw_at lw_m6 214 rfl) rfl
theorem q1669 : (Jvm.Cond.selects "java/lang/StringBuilder" ({ cls := "java/lang/StringBuilder", name := "setLength", desc := "(I)V" } : Jvm.MethodName) ({ cls := "java/lang/StringBuilder", name := "setLength", desc := "(I)V" } : Jvm.MethodName)) ∈ lw_all := lw_g (lw_at lw_m6 215 rfl) rfl
theorem q1670 : (Jvm.Cond.code ({ cls := "java/lang/StringBuilder", name := "setLength", desc := "(I)V" } : Jvm.MethodName) prog_38_method_89_code (2 : Nat) (Option.none : Option Jvm.ClassFile.FieldType)) ∈ lw_all := lw_g (lw_at lw_m6 216 rfl) rfl
theorem q1671 : (Jvm.Cond.methodLink "java/lang/StringBuilder" (333 : Nat) ({ cls := "java/lang/AbstractStringBuilder", name := "setLength", desc := "(I)V" } : Jvm.MethodName)) ∈ lw_all := lw_g (lw_at lw_m6 217 rfl) rfl
theorem q1704 : (Jvm.Cond.instanceMethod ({ cls := "java/lang/StringBuilder", name := "append", desc := "(C)Ljava/lang/StringBuilder;" } : Jvm.MethodName)) ∈ lw_all := lw_g (lw_at lw_m7 10 rfl) rfl
theorem q1705 : (Jvm.Cond.selects "java/lang/StringBuilder" ({ cls := "java/lang/StringBuilder", name := "append", desc := "(C)Ljava/lang/StringBuilder;" } : Jvm.MethodName) ({ cls := "java/lang/StringBuilder", name := "append", desc := "(C)Ljava/lang/StringBuilder;" } : Jvm.MethodName)) ∈ lw_all := lw_g (lw_at lw_m7 11 rfl) rfl
theorem q1706 : (Jvm.Cond.code ({ cls := "java/lang/StringBuilder", name := "append", desc := "(C)Ljava/lang/StringBuilder;" } : Jvm.MethodName) prog_38_method_14_code (2 : Nat) (Option.some (Jvm.ClassFile.FieldType.object "java/lang/StringBuilder"))) ∈ lw_all := lw_g (lw_at lw_m7 12 rfl) rfl
theorem q1707 : (Jvm.Cond.methodLink "java/lang/StringBuilder" (50 : Nat) ({ cls := "java/lang/AbstractStringBuilder", name := "append", desc := "(C)Ljava/lang/AbstractStringBuilder;" } : Jvm.MethodName)) ∈ lw_all := lw_g (lw_at lw_m7 13 rfl) rfl
theorem q1730 : (Jvm.Cond.instanceMethod ({ cls := "java/lang/StringBuilder", name := "length", desc := "()I" } : Jvm.MethodName)) ∈ lw_all := lw_g (lw_at lw_m7 36 rfl) rfl
theorem q1731 : (Jvm.Cond.selects "java/lang/StringBuilder" ({ cls := "java/lang/StringBuilder", name := "length", desc := "()I" } : Jvm.MethodName) ({ cls := "java/lang/StringBuilder", name := "length", desc := "()I" } : Jvm.MethodName)) ∈ lw_all := lw_g (lw_at lw_m7 37 rfl) rfl
theorem q1732 : (Jvm.Cond.code ({ cls := "java/lang/StringBuilder", name := "length", desc := "()I" } : Jvm.MethodName) prog_38_method_93_code (1 : Nat) (Option.some Jvm.ClassFile.FieldType.int)) ∈ lw_all := lw_g (lw_at lw_m7 38 rfl) rfl
theorem q1733 : (Jvm.Cond.methodLink "java/lang/StringBuilder" (343 : Nat) ({ cls := "java/lang/AbstractStringBuilder", name := "length", desc := "()I" } : Jvm.MethodName)) ∈ lw_all := lw_g (lw_at lw_m7 39 rfl) rfl
theorem q1808 : (Jvm.Cond.instanceMethod ({ cls := "java/lang/StringBuilder", name := "toString", desc := "()Ljava/lang/String;" } : Jvm.MethodName)) ∈ lw_all := lw_g (lw_at lw_m7 114 rfl) rfl
theorem q1809 : (Jvm.Cond.selects "java/lang/StringBuilder" ({ cls := "java/lang/StringBuilder", name := "toString", desc := "()Ljava/lang/String;" } : Jvm.MethodName) ({ cls := "java/lang/StringBuilder", name := "toString", desc := "()Ljava/lang/String;" } : Jvm.MethodName)) ∈ lw_all := lw_g (lw_at lw_m7 115 rfl) rfl
theorem q1810 : (Jvm.Cond.code ({ cls := "java/lang/StringBuilder", name := "toString", desc := "()Ljava/lang/String;" } : Jvm.MethodName) prog_38_method_42_code (1 : Nat) (Option.some (Jvm.ClassFile.FieldType.object "java/lang/String"))) ∈ lw_all := lw_g (lw_at lw_m7 116 rfl) rfl
theorem q1811 : (Jvm.Cond.classLink "java/lang/StringBuilder" (18 : Nat) "java/lang/String") ∈ lw_all := lw_g (lw_at lw_m7 117 rfl) rfl
theorem q1812 : (Jvm.Cond.methodLink "java/lang/StringBuilder" (137 : Nat) ({ cls := "java/lang/String", name := "<init>", desc := "(Ljava/lang/StringBuilder;)V" } : Jvm.MethodName)) ∈ lw_all := lw_g (lw_at lw_m7 118 rfl) rfl
theorem q1821 : (Jvm.Cond.selects "java/lang/StringBuilder" ({ cls := "java/lang/AbstractStringBuilder", name := "getValue", desc := "()[B" } : Jvm.MethodName) ({ cls := "java/lang/AbstractStringBuilder", name := "getValue", desc := "()[B" } : Jvm.MethodName)) ∈ lw_all := lw_g (lw_at lw_m7 127 rfl) rfl
theorem q4318 : (Jvm.Cond.selects "java/lang/StringBuilder" ({ cls := "java/lang/AbstractStringBuilder", name := "length", desc := "()I" } : Jvm.MethodName) ({ cls := "java/lang/StringBuilder", name := "length", desc := "()I" } : Jvm.MethodName)) ∈ lw_all := lw_g (lw_at lw_m17 224 rfl) rfl
theorem q4345 : (Jvm.Cond.castable "java/lang/StringBuilder" "java/lang/Object") ∈ lw_tbl := lw_at lw_m18 11 rfl
theorem in_J21 : ∀ w ∈ wsJ210, w ∈ lw_all := lw_in wsJ210 [1546, 1548, 1550, 1552] (by decide +kernel) (by decide +kernel)
/-! java/lang/Throwable -/
set_option maxRecDepth 100000
def RJ22 : String := "java/lang/Throwable"
def TJ22 : u_T := fun k => match k with
  | 0 => ("java/lang/Throwable", "cause", "Ljava/lang/Throwable;", false)
  | 1 => ("java/lang/Throwable", "stackTrace", "[Ljava/lang/StackTraceElement;", false)
  | 2 => ("java/lang/Throwable", "suppressedExceptions", "Ljava/util/List;", false)
  | 3 => ("java/lang/Throwable", "detailMessage", "Ljava/lang/String;", false)
  | _ => ("java/lang/Throwable", "backtrace", "Ljava/lang/Object;", false)
def tyJ22 : Nat → FieldType := fun k => match k with
  | 0 => .object "java/lang/Throwable"
  | 1 => .array (.object "java/lang/StackTraceElement")
  | 2 => .object "java/util/List"
  | 3 => .object "java/lang/String"
  | _ => .object "java/lang/Object"
abbrev wsJ220 : List Cond := u_ws RJ22 TJ22 5
theorem nmJ22 : ∀ a, a < 5 → ∀ b, b < 5 → a ≠ b → (TJ22 a).2.1 ≠ (TJ22 b).2.1 := by decide +kernel
theorem tyJ22_ok : ∀ k, k < 5 → parseFieldDescriptor (TJ22 k).2.2.1 = some (tyJ22 k) := by decide +kernel
abbrev cJ22_init : ByteArray := prog_43_method_1_code
def yJ22_init : MethodName := ⟨RJ22, "<init>", "()V"⟩
theorem q291 : (Jvm.Cond.initialized "java/lang/Throwable") ∈ lw_all := lw_g (lw_at lw_m1 37 rfl) rfl
theorem q1742 : (Jvm.Cond.declares ({ cls := "java/lang/Throwable", name := "<init>", desc := "()V" } : Jvm.MethodName)) ∈ lw_tbl := lw_at lw_m7 48 rfl
theorem q1743 : (Jvm.Cond.declares ({ cls := "java/lang/Throwable", name := "<init>", desc := "(Ljava/lang/String;)V" } : Jvm.MethodName)) ∈ lw_tbl := lw_at lw_m7 49 rfl
theorem q1747 : (Jvm.Cond.lays "java/lang/Throwable" "java/lang/Throwable" "cause" "Ljava/lang/Throwable;") ∈ lw_all := lw_g (lw_at lw_m7 53 rfl) rfl
theorem q1749 : (Jvm.Cond.lays "java/lang/Throwable" "java/lang/Throwable" "stackTrace" "[Ljava/lang/StackTraceElement;") ∈ lw_all := lw_g (lw_at lw_m7 55 rfl) rfl
theorem q1751 : (Jvm.Cond.lays "java/lang/Throwable" "java/lang/Throwable" "suppressedExceptions" "Ljava/util/List;") ∈ lw_all := lw_g (lw_at lw_m7 57 rfl) rfl
theorem q1753 : (Jvm.Cond.lays "java/lang/Throwable" "java/lang/Throwable" "detailMessage" "Ljava/lang/String;") ∈ lw_all := lw_g (lw_at lw_m7 59 rfl) rfl
theorem q1755 : (Jvm.Cond.lays "java/lang/Throwable" "java/lang/Throwable" "backtrace" "Ljava/lang/Object;") ∈ lw_all := lw_g (lw_at lw_m7 61 rfl) rfl
theorem q1756 : (Jvm.Cond.fieldLink "java/lang/Throwable" (198 : Nat) "java/lang/Throwable" "backtrace" "Ljava/lang/Object;") ∈ lw_all := lw_g (lw_at lw_m7 62 rfl) rfl
theorem q1757 : (Jvm.Cond.superclass "java/lang/Throwable" "java/lang/Object") ∈ lw_all := lw_g (lw_at lw_m7 63 rfl) rfl
theorem q1758 : (Jvm.Cond.instanceMethod ({ cls := "java/lang/Throwable", name := "<init>", desc := "()V" } : Jvm.MethodName)) ∈ lw_all := lw_g (lw_at lw_m7 64 rfl) rfl
theorem q1759 : (Jvm.Cond.code ({ cls := "java/lang/Throwable", name := "<init>", desc := "()V" } : Jvm.MethodName) prog_43_method_1_code (1 : Nat) (Option.none : Option Jvm.ClassFile.FieldType)) ∈ lw_all := lw_g (lw_at lw_m7 65 rfl) rfl
theorem q1760 : (Jvm.Cond.methodLink "java/lang/Throwable" (1 : Nat) ({ cls := "java/lang/Object", name := "<init>", desc := "()V" } : Jvm.MethodName)) ∈ lw_all := lw_g (lw_at lw_m7 66 rfl) rfl
theorem q1761 : (Jvm.Cond.fieldLink "java/lang/Throwable" (13 : Nat) "java/lang/Throwable" "UNASSIGNED_STACK" "[Ljava/lang/StackTraceElement;") ∈ lw_all := lw_g (lw_at lw_m7 67 rfl) rfl
theorem q1762 : (Jvm.Cond.laysStatic "java/lang/Throwable" "UNASSIGNED_STACK" "[Ljava/lang/StackTraceElement;") ∈ lw_tbl := lw_at lw_m7 68 rfl
theorem q1763 : (Jvm.Cond.fieldLink "java/lang/Throwable" (20 : Nat) "java/lang/Throwable" "SUPPRESSED_SENTINEL" "Ljava/util/List;") ∈ lw_all := lw_g (lw_at lw_m7 69 rfl) rfl
theorem q1764 : (Jvm.Cond.laysStatic "java/lang/Throwable" "SUPPRESSED_SENTINEL" "Ljava/util/List;") ∈ lw_tbl := lw_at lw_m7 70 rfl
theorem q1765 : (Jvm.Cond.methodLink "java/lang/Throwable" (27 : Nat) ({ cls := "java/lang/Throwable", name := "fillInStackTrace", desc := "()Ljava/lang/Throwable;" } : Jvm.MethodName)) ∈ lw_all := lw_g (lw_at lw_m7 71 rfl) rfl
theorem q1766 : (Jvm.Cond.instanceMethod ({ cls := "java/lang/Throwable", name := "fillInStackTrace", desc := "()Ljava/lang/Throwable;" } : Jvm.MethodName)) ∈ lw_all := lw_g (lw_at lw_m7 72 rfl) rfl
theorem q1767 : (Jvm.Cond.sameMethod "java/lang/Throwable" "java/lang/Throwable" "fillInStackTrace" "()Ljava/lang/Throwable;") ∈ lw_all := lw_g (lw_at lw_m7 73 rfl) rfl
theorem q1770 : (Jvm.Cond.codeSync ({ cls := "java/lang/Throwable", name := "fillInStackTrace", desc := "()Ljava/lang/Throwable;" } : Jvm.MethodName) prog_43_method_18_code (1 : Nat) (Option.some (Jvm.ClassFile.FieldType.object "java/lang/Throwable"))) ∈ lw_all := lw_g (lw_at lw_m7 76 rfl) rfl
theorem q1771 : (Jvm.Cond.methodLink "java/lang/Throwable" (202 : Nat) ({ cls := "java/lang/Throwable", name := "fillInStackTrace", desc := "(I)Ljava/lang/Throwable;" } : Jvm.MethodName)) ∈ lw_all := lw_g (lw_at lw_m7 77 rfl) rfl
theorem q1772 : (Jvm.Cond.privateMethod ({ cls := "java/lang/Throwable", name := "fillInStackTrace", desc := "(I)Ljava/lang/Throwable;" } : Jvm.MethodName)) ∈ lw_tbl := lw_at lw_m7 78 rfl
theorem q1773 : (Jvm.Cond.instanceMethod ({ cls := "java/lang/Throwable", name := "fillInStackTrace", desc := "(I)Ljava/lang/Throwable;" } : Jvm.MethodName)) ∈ lw_all := lw_g (lw_at lw_m7 79 rfl) rfl
theorem q1774 : (Jvm.Cond.instantiable "java/lang/Throwable" (6 : Nat)) ∈ lw_all := lw_g (lw_at lw_m7 80 rfl) rfl
theorem q1775 : (Jvm.Cond.native ({ cls := "java/lang/Throwable", name := "fillInStackTrace", desc := "(I)Ljava/lang/Throwable;" } : Jvm.MethodName)) ∈ lw_all := lw_g (lw_at lw_m7 81 rfl) rfl
theorem q1791 : (Jvm.Cond.fieldLink "java/lang/Throwable" (198 : Nat) "java/lang/Throwable" "backtrace" "Ljava/lang/Object;") ∈ lw_all := lw_g (lw_at lw_m7 97 rfl) rfl
theorem q1792 : (Jvm.Cond.fieldLink "java/lang/Throwable" (7 : Nat) "java/lang/Throwable" "cause" "Ljava/lang/Throwable;") ∈ lw_all := lw_g (lw_at lw_m7 98 rfl) rfl
theorem q1793 : (Jvm.Cond.fieldLink "java/lang/Throwable" (17 : Nat) "java/lang/Throwable" "stackTrace" "[Ljava/lang/StackTraceElement;") ∈ lw_all := lw_g (lw_at lw_m7 99 rfl) rfl
theorem q1794 : (Jvm.Cond.fieldLink "java/lang/Throwable" (24 : Nat) "java/lang/Throwable" "suppressedExceptions" "Ljava/util/List;") ∈ lw_all := lw_g (lw_at lw_m7 100 rfl) rfl
theorem q1799 : (Jvm.Cond.soleField "java/lang/Throwable" "backtrace") ∈ lw_all := lw_g (lw_at lw_m7 105 rfl) rfl
theorem q1800 : (Jvm.Cond.soleField "java/lang/Throwable" "detailMessage") ∈ lw_all := lw_g (lw_at lw_m7 106 rfl) rfl
theorem q1801 : (Jvm.Cond.soleField "java/lang/Throwable" "cause") ∈ lw_all := lw_g (lw_at lw_m7 107 rfl) rfl
theorem q1802 : (Jvm.Cond.soleField "java/lang/Throwable" "stackTrace") ∈ lw_all := lw_g (lw_at lw_m7 108 rfl) rfl
theorem q1804 : (Jvm.Cond.soleField "java/lang/Throwable" "depth") ∈ lw_all := lw_g (lw_at lw_m7 110 rfl) rfl
theorem q1805 : (Jvm.Cond.soleField "java/lang/Throwable" "suppressedExceptions") ∈ lw_all := lw_g (lw_at lw_m7 111 rfl) rfl
theorem q4317 : (Jvm.Cond.sameMethod "java/lang/Throwable" "java/lang/Throwable" "fillInStackTrace" "(I)Ljava/lang/Throwable;") ∈ lw_all := lw_g (lw_at lw_m17 223 rfl) rfl
theorem q4357 : (Jvm.Cond.castable "java/lang/Throwable" "java/lang/Object") ∈ lw_tbl := lw_at lw_m18 23 rfl
theorem in_J22 : ∀ w ∈ wsJ220, w ∈ lw_all := lw_in wsJ220 [1747, 1749, 1751, 1753, 1755] (by decide +kernel) (by decide +kernel)
/-! java/lang/Exception -/
set_option maxRecDepth 100000
def RJ23 : String := "java/lang/Exception"
abbrev cJ23_init : ByteArray := prog_29_method_1_code
def yJ23_init : MethodName := ⟨RJ23, "<init>", "()V"⟩
theorem q292 : (Jvm.Cond.initialized "java/lang/Exception") ∈ lw_all := lw_g (lw_at lw_m1 38 rfl) rfl
theorem q1740 : (Jvm.Cond.declares ({ cls := "java/lang/Exception", name := "<init>", desc := "()V" } : Jvm.MethodName)) ∈ lw_tbl := lw_at lw_m7 46 rfl
theorem q1741 : (Jvm.Cond.declares ({ cls := "java/lang/Exception", name := "<init>", desc := "(Ljava/lang/String;)V" } : Jvm.MethodName)) ∈ lw_tbl := lw_at lw_m7 47 rfl
theorem q1783 : (Jvm.Cond.instanceMethod ({ cls := "java/lang/Exception", name := "<init>", desc := "()V" } : Jvm.MethodName)) ∈ lw_all := lw_g (lw_at lw_m7 89 rfl) rfl
theorem q1784 : (Jvm.Cond.code ({ cls := "java/lang/Exception", name := "<init>", desc := "()V" } : Jvm.MethodName) prog_29_method_1_code (1 : Nat) (Option.none : Option Jvm.ClassFile.FieldType)) ∈ lw_all := lw_g (lw_at lw_m7 90 rfl) rfl
theorem q1785 : (Jvm.Cond.methodLink "java/lang/Exception" (1 : Nat) ({ cls := "java/lang/Throwable", name := "<init>", desc := "()V" } : Jvm.MethodName)) ∈ lw_all := lw_g (lw_at lw_m7 91 rfl) rfl
/-! java/lang/RuntimeException -/
set_option maxRecDepth 100000
def RJ24 : String := "java/lang/RuntimeException"
abbrev cJ24_init : ByteArray := prog_36_method_1_code
def yJ24_init : MethodName := ⟨RJ24, "<init>", "()V"⟩
theorem q293 : (Jvm.Cond.initialized "java/lang/RuntimeException") ∈ lw_all := lw_g (lw_at lw_m1 39 rfl) rfl
theorem q1738 : (Jvm.Cond.declares ({ cls := "java/lang/RuntimeException", name := "<init>", desc := "()V" } : Jvm.MethodName)) ∈ lw_tbl := lw_at lw_m7 44 rfl
theorem q1739 : (Jvm.Cond.declares ({ cls := "java/lang/RuntimeException", name := "<init>", desc := "(Ljava/lang/String;)V" } : Jvm.MethodName)) ∈ lw_tbl := lw_at lw_m7 45 rfl
theorem q1780 : (Jvm.Cond.instanceMethod ({ cls := "java/lang/RuntimeException", name := "<init>", desc := "()V" } : Jvm.MethodName)) ∈ lw_all := lw_g (lw_at lw_m7 86 rfl) rfl
theorem q1781 : (Jvm.Cond.code ({ cls := "java/lang/RuntimeException", name := "<init>", desc := "()V" } : Jvm.MethodName) prog_36_method_1_code (1 : Nat) (Option.none : Option Jvm.ClassFile.FieldType)) ∈ lw_all := lw_g (lw_at lw_m7 87 rfl) rfl
theorem q1782 : (Jvm.Cond.methodLink "java/lang/RuntimeException" (1 : Nat) ({ cls := "java/lang/Exception", name := "<init>", desc := "()V" } : Jvm.MethodName)) ∈ lw_all := lw_g (lw_at lw_m7 88 rfl) rfl
/-! java/lang/Character -/
set_option maxRecDepth 100000
def RJ25 : String := "java/lang/Character"
abbrev cJ25_isValidCodePoint : ByteArray := prog_25_method_11_code
def yJ25_isValidCodePoint : MethodName := ⟨RJ25, "isValidCodePoint", "(I)Z"⟩
abbrev cJ25_highSurrogate : ByteArray := prog_25_method_28_code
def yJ25_highSurrogate : MethodName := ⟨RJ25, "highSurrogate", "(I)C"⟩
abbrev cJ25_lowSurrogate : ByteArray := prog_25_method_29_code
def yJ25_lowSurrogate : MethodName := ⟨RJ25, "lowSurrogate", "(I)C"⟩
theorem q295 : (Jvm.Cond.initialized "java/lang/Character") ∈ lw_all := lw_g (lw_at lw_m1 41 rfl) rfl
theorem q1937 : (Jvm.Cond.static ({ cls := "java/lang/Character", name := "isValidCodePoint", desc := "(I)Z" } : Jvm.MethodName)) ∈ lw_all := lw_g (lw_at lw_m8 3 rfl) rfl
theorem q1938 : (Jvm.Cond.code ({ cls := "java/lang/Character", name := "isValidCodePoint", desc := "(I)Z" } : Jvm.MethodName) prog_25_method_11_code (2 : Nat) (Option.some Jvm.ClassFile.FieldType.boolean)) ∈ lw_all := lw_g (lw_at lw_m8 4 rfl) rfl
theorem q1940 : (Jvm.Cond.static ({ cls := "java/lang/Character", name := "highSurrogate", desc := "(I)C" } : Jvm.MethodName)) ∈ lw_all := lw_g (lw_at lw_m8 6 rfl) rfl
theorem q1941 : (Jvm.Cond.code ({ cls := "java/lang/Character", name := "highSurrogate", desc := "(I)C" } : Jvm.MethodName) prog_25_method_28_code (1 : Nat) (Option.some Jvm.ClassFile.FieldType.char)) ∈ lw_all := lw_g (lw_at lw_m8 7 rfl) rfl
theorem q1942 : (Jvm.Cond.constant "java/lang/Character" (110 : Nat) (55232 : Int32)) ∈ lw_all := lw_g (lw_at lw_m8 8 rfl) rfl
theorem q1944 : (Jvm.Cond.static ({ cls := "java/lang/Character", name := "lowSurrogate", desc := "(I)C" } : Jvm.MethodName)) ∈ lw_all := lw_g (lw_at lw_m8 10 rfl) rfl
theorem q1945 : (Jvm.Cond.code ({ cls := "java/lang/Character", name := "lowSurrogate", desc := "(I)C" } : Jvm.MethodName) prog_25_method_29_code (1 : Nat) (Option.some Jvm.ClassFile.FieldType.char)) ∈ lw_all := lw_g (lw_at lw_m8 11 rfl) rfl
theorem q1946 : (Jvm.Cond.constant "java/lang/Character" (76 : Nat) (56320 : Int32)) ∈ lw_all := lw_g (lw_at lw_m8 12 rfl) rfl
/-! java/util/Objects -/
set_option maxRecDepth 100000
def RJ26 : String := "java/util/Objects"
abbrev cJ26_checkIndex : ByteArray := prog_62_method_17_code
def yJ26_checkIndex : MethodName := ⟨RJ26, "checkIndex", "(II)I"⟩
theorem q296 : (Jvm.Cond.initialized "java/util/Objects") ∈ lw_all := lw_g (lw_at lw_m1 42 rfl) rfl
theorem q2014 : (Jvm.Cond.static ({ cls := "java/util/Objects", name := "checkIndex", desc := "(II)I" } : Jvm.MethodName)) ∈ lw_all := lw_g (lw_at lw_m8 80 rfl) rfl
theorem q2015 : (Jvm.Cond.code ({ cls := "java/util/Objects", name := "checkIndex", desc := "(II)I" } : Jvm.MethodName) prog_62_method_17_code (2 : Nat) (Option.some Jvm.ClassFile.FieldType.int)) ∈ lw_all := lw_g (lw_at lw_m8 81 rfl) rfl
theorem q2016 : (Jvm.Cond.methodLink "java/util/Objects" (105 : Nat) ({ cls := "jdk/internal/util/Preconditions", name := "checkIndex", desc := "(IILjava/util/function/BiFunction;)I" } : Jvm.MethodName)) ∈ lw_all := lw_g (lw_at lw_m8 82 rfl) rfl
/-! java/util/AbstractSet -/
set_option maxRecDepth 100000
def RJ27 : String := "java/util/AbstractSet"
abbrev cJ27_init : ByteArray := prog_49_method_1_code
def yJ27_init : MethodName := ⟨RJ27, "<init>", "()V"⟩
theorem q298 : (Jvm.Cond.initialized "java/util/AbstractSet") ∈ lw_all := lw_g (lw_at lw_m1 44 rfl) rfl
theorem q2039 : (Jvm.Cond.instanceMethod ({ cls := "java/util/AbstractSet", name := "<init>", desc := "()V" } : Jvm.MethodName)) ∈ lw_all := lw_g (lw_at lw_m8 105 rfl) rfl
theorem q2040 : (Jvm.Cond.code ({ cls := "java/util/AbstractSet", name := "<init>", desc := "()V" } : Jvm.MethodName) prog_49_method_1_code (1 : Nat) (Option.none : Option Jvm.ClassFile.FieldType)) ∈ lw_all := lw_g (lw_at lw_m8 106 rfl) rfl
theorem q2041 : (Jvm.Cond.methodLink "java/util/AbstractSet" (1 : Nat) ({ cls := "java/util/AbstractCollection", name := "<init>", desc := "()V" } : Jvm.MethodName)) ∈ lw_all := lw_g (lw_at lw_m8 107 rfl) rfl
/-! java/util/HashSet -/
set_option maxRecDepth 100000
def RJ28 : String := "java/util/HashSet"
def TJ28 : u_T := fun k => match k with
  | _ => ("java/util/HashSet", "map", "Ljava/util/HashMap;", false)
def tyJ28 : Nat → FieldType := fun k => match k with
  | _ => .object "java/util/HashMap"
abbrev wsJ280 : List Cond := u_ws RJ28 TJ28 1
theorem nmJ28 : ∀ a, a < 1 → ∀ b, b < 1 → a ≠ b → (TJ28 a).2.1 ≠ (TJ28 b).2.1 := by decide +kernel
theorem tyJ28_ok : ∀ k, k < 1 → parseFieldDescriptor (TJ28 k).2.2.1 = some (tyJ28 k) := by decide +kernel
abbrev cJ28_init : ByteArray := prog_56_method_1_code
def yJ28_init : MethodName := ⟨RJ28, "<init>", "()V"⟩
abbrev cJ28_add : ByteArray := prog_56_method_10_code
def yJ28_add : MethodName := ⟨RJ28, "add", "(Ljava/lang/Object;)Z"⟩
abbrev cJ28_contains : ByteArray := prog_56_method_9_code
def yJ28_contains : MethodName := ⟨RJ28, "contains", "(Ljava/lang/Object;)Z"⟩
theorem q299 : (Jvm.Cond.initialized "java/util/HashSet") ∈ lw_all := lw_g (lw_at lw_m1 45 rfl) rfl
theorem q852 : (Jvm.Cond.selects "java/util/HashSet" ({ cls := "java/lang/Object", name := "getClass", desc := "()Ljava/lang/Class;" } : Jvm.MethodName) ({ cls := "java/lang/Object", name := "getClass", desc := "()Ljava/lang/Class;" } : Jvm.MethodName)) ∈ lw_all := lw_g (lw_at lw_m3 118 rfl) rfl
theorem q2034 : (Jvm.Cond.instantiable "java/util/HashSet" (1 : Nat)) ∈ lw_all := lw_g (lw_at lw_m8 100 rfl) rfl
theorem q2036 : (Jvm.Cond.instanceMethod ({ cls := "java/util/HashSet", name := "<init>", desc := "()V" } : Jvm.MethodName)) ∈ lw_all := lw_g (lw_at lw_m8 102 rfl) rfl
theorem q2037 : (Jvm.Cond.code ({ cls := "java/util/HashSet", name := "<init>", desc := "()V" } : Jvm.MethodName) prog_56_method_1_code (1 : Nat) (Option.none : Option Jvm.ClassFile.FieldType)) ∈ lw_all := lw_g (lw_at lw_m8 103 rfl) rfl
theorem q2038 : (Jvm.Cond.methodLink "java/util/HashSet" (1 : Nat) ({ cls := "java/util/AbstractSet", name := "<init>", desc := "()V" } : Jvm.MethodName)) ∈ lw_all := lw_g (lw_at lw_m8 104 rfl) rfl
theorem q2042 : (Jvm.Cond.classLink "java/util/HashSet" (7 : Nat) "java/util/HashMap") ∈ lw_all := lw_g (lw_at lw_m8 108 rfl) rfl
theorem q2043 : (Jvm.Cond.methodLink "java/util/HashSet" (9 : Nat) ({ cls := "java/util/HashMap", name := "<init>", desc := "()V" } : Jvm.MethodName)) ∈ lw_all := lw_g (lw_at lw_m8 109 rfl) rfl
theorem q2044 : (Jvm.Cond.fieldLink "java/util/HashSet" (10 : Nat) "java/util/HashSet" "map" "Ljava/util/HashMap;") ∈ lw_all := lw_g (lw_at lw_m8 110 rfl) rfl
theorem q2045 : (Jvm.Cond.lays "java/util/HashSet" "java/util/HashSet" "map" "Ljava/util/HashMap;") ∈ lw_all := lw_g (lw_at lw_m8 111 rfl) rfl
theorem q2046 : (Jvm.Cond.soleField "java/util/HashSet" "map") ∈ lw_all := lw_g (lw_at lw_m8 112 rfl) rfl
theorem q2047 : (Jvm.Cond.superclass "java/util/HashSet" "java/util/AbstractSet") ∈ lw_all := lw_g (lw_at lw_m8 113 rfl) rfl
theorem q2500 : (Jvm.Cond.castable "java/util/HashSet" "java/util/Set") ∈ lw_tbl := lw_at lw_m10 86 rfl
theorem q2501 : (Jvm.Cond.selects "java/util/HashSet" ({ cls := "java/util/Set", name := "add", desc := "(Ljava/lang/Object;)Z" } : Jvm.MethodName) ({ cls := "java/util/HashSet", name := "add", desc := "(Ljava/lang/Object;)Z" } : Jvm.MethodName)) ∈ lw_all := lw_g (lw_at lw_m10 87 rfl) rfl
theorem q2502 : (Jvm.Cond.unhidden "java/util/HashSet" "add" "(Ljava/lang/Object;)Z") ∈ lw_tbl := lw_at lw_m10 88 rfl
theorem q2503 : (Jvm.Cond.instanceMethod ({ cls := "java/util/HashSet", name := "add", desc := "(Ljava/lang/Object;)Z" } : Jvm.MethodName)) ∈ lw_all := lw_g (lw_at lw_m10 89 rfl) rfl
theorem q2504 : (Jvm.Cond.publicMethod ({ cls := "java/util/HashSet", name := "add", desc := "(Ljava/lang/Object;)Z" } : Jvm.MethodName)) ∈ lw_tbl := lw_at lw_m10 90 rfl
theorem q2505 : (Jvm.Cond.code ({ cls := "java/util/HashSet", name := "add", desc := "(Ljava/lang/Object;)Z" } : Jvm.MethodName) prog_56_method_10_code (2 : Nat) (Option.some Jvm.ClassFile.FieldType.boolean)) ∈ lw_all := lw_g (lw_at lw_m10 91 rfl) rfl
theorem q2506 : (Jvm.Cond.fieldLink "java/util/HashSet" (64 : Nat) "java/util/HashSet" "PRESENT" "Ljava/lang/Object;") ∈ lw_all := lw_g (lw_at lw_m10 92 rfl) rfl
theorem q2507 : (Jvm.Cond.laysStatic "java/util/HashSet" "PRESENT" "Ljava/lang/Object;") ∈ lw_tbl := lw_at lw_m10 93 rfl
theorem q2508 : (Jvm.Cond.methodLink "java/util/HashSet" (68 : Nat) ({ cls := "java/util/HashMap", name := "put", desc := "(Ljava/lang/Object;Ljava/lang/Object;)Ljava/lang/Object;" } : Jvm.MethodName)) ∈ lw_all := lw_g (lw_at lw_m10 94 rfl) rfl
theorem q2523 : (Jvm.Cond.selects "java/util/HashSet" ({ cls := "java/util/Set", name := "contains", desc := "(Ljava/lang/Object;)Z" } : Jvm.MethodName) ({ cls := "java/util/HashSet", name := "contains", desc := "(Ljava/lang/Object;)Z" } : Jvm.MethodName)) ∈ lw_all := lw_g (lw_at lw_m10 109 rfl) rfl
theorem q2524 : (Jvm.Cond.unhidden "java/util/HashSet" "contains" "(Ljava/lang/Object;)Z") ∈ lw_tbl := lw_at lw_m10 110 rfl
theorem q2525 : (Jvm.Cond.instanceMethod ({ cls := "java/util/HashSet", name := "contains", desc := "(Ljava/lang/Object;)Z" } : Jvm.MethodName)) ∈ lw_all := lw_g (lw_at lw_m10 111 rfl) rfl
theorem q2526 : (Jvm.Cond.publicMethod ({ cls := "java/util/HashSet", name := "contains", desc := "(Ljava/lang/Object;)Z" } : Jvm.MethodName)) ∈ lw_tbl := lw_at lw_m10 112 rfl
theorem q2527 : (Jvm.Cond.code ({ cls := "java/util/HashSet", name := "contains", desc := "(Ljava/lang/Object;)Z" } : Jvm.MethodName) prog_56_method_9_code (2 : Nat) (Option.some Jvm.ClassFile.FieldType.boolean)) ∈ lw_all := lw_g (lw_at lw_m10 113 rfl) rfl
theorem q2528 : (Jvm.Cond.methodLink "java/util/HashSet" (60 : Nat) ({ cls := "java/util/HashMap", name := "containsKey", desc := "(Ljava/lang/Object;)Z" } : Jvm.MethodName)) ∈ lw_all := lw_g (lw_at lw_m10 114 rfl) rfl
theorem q4349 : (Jvm.Cond.castable "java/util/HashSet" "java/lang/Object") ∈ lw_tbl := lw_at lw_m18 15 rfl
theorem in_J28 : ∀ w ∈ wsJ280, w ∈ lw_all := lw_in wsJ280 [2045] (by decide +kernel) (by decide +kernel)
/-! java/util/NoSuchElementException -/
set_option maxRecDepth 100000
def RJ29 : String := "java/util/NoSuchElementException"
def TJ29 : u_T := fun k => match k with
  | 0 => ("java/lang/Throwable", "cause", "Ljava/lang/Throwable;", false)
  | 1 => ("java/lang/Throwable", "stackTrace", "[Ljava/lang/StackTraceElement;", false)
  | 2 => ("java/lang/Throwable", "suppressedExceptions", "Ljava/util/List;", false)
  | 3 => ("java/lang/Throwable", "detailMessage", "Ljava/lang/String;", false)
  | 4 => ("java/lang/Throwable", "backtrace", "Ljava/lang/Object;", false)
  | _ => ("java/lang/Throwable", "depth", "I", false)
def tyJ29 : Nat → FieldType := fun k => match k with
  | 0 => .object "java/lang/Throwable"
  | 1 => .array (.object "java/lang/StackTraceElement")
  | 2 => .object "java/util/List"
  | 3 => .object "java/lang/String"
  | 4 => .object "java/lang/Object"
  | _ => .int
abbrev wsJ290 : List Cond := u_ws RJ29 TJ29 6
theorem nmJ29 : ∀ a, a < 6 → ∀ b, b < 6 → a ≠ b → (TJ29 a).2.1 ≠ (TJ29 b).2.1 := by decide +kernel
theorem tyJ29_ok : ∀ k, k < 6 → parseFieldDescriptor (TJ29 k).2.2.1 = some (tyJ29 k) := by decide +kernel
abbrev cJ29_init : ByteArray := prog_61_method_1_code
def yJ29_init : MethodName := ⟨RJ29, "<init>", "()V"⟩
theorem q306 : (Jvm.Cond.initialized "java/util/NoSuchElementException") ∈ lw_all := lw_g (lw_at lw_m1 52 rfl) rfl
theorem q853 : (Jvm.Cond.selects "java/util/NoSuchElementException" ({ cls := "java/lang/Object", name := "getClass", desc := "()Ljava/lang/Class;" } : Jvm.MethodName) ({ cls := "java/lang/Object", name := "getClass", desc := "()Ljava/lang/Class;" } : Jvm.MethodName)) ∈ lw_all := lw_g (lw_at lw_m3 119 rfl) rfl
theorem q1769 : (Jvm.Cond.selects "java/util/NoSuchElementException" ({ cls := "java/lang/Throwable", name := "fillInStackTrace", desc := "()Ljava/lang/Throwable;" } : Jvm.MethodName) ({ cls := "java/lang/Throwable", name := "fillInStackTrace", desc := "()Ljava/lang/Throwable;" } : Jvm.MethodName)) ∈ lw_all := lw_g (lw_at lw_m7 75 rfl) rfl
theorem q3285 : (Jvm.Cond.instantiable "java/util/NoSuchElementException" (6 : Nat)) ∈ lw_all := lw_g (lw_at lw_m13 151 rfl) rfl
theorem q3286 : (Jvm.Cond.castable "java/util/NoSuchElementException" "java/util/NoSuchElementException") ∈ lw_tbl := lw_at lw_m13 152 rfl
theorem q3287 : (Jvm.Cond.selects "java/util/NoSuchElementException" ({ cls := "java/lang/Throwable", name := "fillInStackTrace", desc := "(I)Ljava/lang/Throwable;" } : Jvm.MethodName) ({ cls := "java/lang/Throwable", name := "fillInStackTrace", desc := "(I)Ljava/lang/Throwable;" } : Jvm.MethodName)) ∈ lw_all := lw_g (lw_at lw_m13 153 rfl) rfl
theorem q3288 : (Jvm.Cond.lays "java/util/NoSuchElementException" "java/lang/Throwable" "cause" "Ljava/lang/Throwable;") ∈ lw_all := lw_g (lw_at lw_m13 154 rfl) rfl
theorem q3289 : (Jvm.Cond.lays "java/util/NoSuchElementException" "java/lang/Throwable" "stackTrace" "[Ljava/lang/StackTraceElement;") ∈ lw_all := lw_g (lw_at lw_m13 155 rfl) rfl
theorem q3290 : (Jvm.Cond.lays "java/util/NoSuchElementException" "java/lang/Throwable" "suppressedExceptions" "Ljava/util/List;") ∈ lw_all := lw_g (lw_at lw_m13 156 rfl) rfl
theorem q3291 : (Jvm.Cond.lays "java/util/NoSuchElementException" "java/lang/Throwable" "detailMessage" "Ljava/lang/String;") ∈ lw_all := lw_g (lw_at lw_m13 157 rfl) rfl
theorem q3292 : (Jvm.Cond.lays "java/util/NoSuchElementException" "java/lang/Throwable" "backtrace" "Ljava/lang/Object;") ∈ lw_all := lw_g (lw_at lw_m13 158 rfl) rfl
theorem q3294 : (Jvm.Cond.instanceMethod ({ cls := "java/util/NoSuchElementException", name := "<init>", desc := "()V" } : Jvm.MethodName)) ∈ lw_all := lw_g (lw_at lw_m13 160 rfl) rfl
theorem q3295 : (Jvm.Cond.code ({ cls := "java/util/NoSuchElementException", name := "<init>", desc := "()V" } : Jvm.MethodName) prog_61_method_1_code (1 : Nat) (Option.none : Option Jvm.ClassFile.FieldType)) ∈ lw_all := lw_g (lw_at lw_m13 161 rfl) rfl
theorem q3296 : (Jvm.Cond.methodLink "java/util/NoSuchElementException" (1 : Nat) ({ cls := "java/lang/RuntimeException", name := "<init>", desc := "()V" } : Jvm.MethodName)) ∈ lw_all := lw_g (lw_at lw_m13 162 rfl) rfl
theorem q3297 : (Jvm.Cond.lays "java/util/NoSuchElementException" "java/lang/Throwable" "depth" "I") ∈ lw_all := lw_g (lw_at lw_m13 163 rfl) rfl
theorem q3298 : (Jvm.Cond.superclass "java/util/NoSuchElementException" "java/lang/RuntimeException") ∈ lw_all := lw_g (lw_at lw_m13 164 rfl) rfl
theorem q4356 : (Jvm.Cond.castable "java/util/NoSuchElementException" "java/lang/Object") ∈ lw_tbl := lw_at lw_m18 22 rfl
theorem in_J29 : ∀ w ∈ wsJ290, w ∈ lw_all := lw_in wsJ290 [3288, 3289, 3290, 3291, 3292, 3297] (by decide +kernel) (by decide +kernel)
/-! java/lang/Object -/
set_option maxRecDepth 100000
def RJ30 : String := "java/lang/Object"
abbrev cJ30_init : ByteArray := object_method_1_code
def yJ30_init : MethodName := ⟨RJ30, "<init>", "()V"⟩
abbrev cJ30_equals : ByteArray := object_method_4_code
def yJ30_equals : MethodName := ⟨RJ30, "equals", "(Ljava/lang/Object;)Z"⟩
theorem q313 : (Jvm.Cond.instanceMethod ({ cls := "java/lang/Object", name := "<init>", desc := "()V" } : Jvm.MethodName)) ∈ lw_all := lw_g (lw_at lw_m1 59 rfl) rfl
theorem q314 : (Jvm.Cond.code ({ cls := "java/lang/Object", name := "<init>", desc := "()V" } : Jvm.MethodName) object_method_1_code (1 : Nat) (Option.none : Option Jvm.ClassFile.FieldType)) ∈ lw_all := lw_g (lw_at lw_m1 60 rfl) rfl
theorem q569 : (Jvm.Cond.native ({ cls := "java/lang/Object", name := "clone", desc := "()Ljava/lang/Object;" } : Jvm.MethodName)) ∈ lw_all := lw_g (lw_at lw_m2 75 rfl) rfl
theorem q570 : (Jvm.Cond.instanceMethod ({ cls := "java/lang/Object", name := "clone", desc := "()Ljava/lang/Object;" } : Jvm.MethodName)) ∈ lw_all := lw_g (lw_at lw_m2 76 rfl) rfl
theorem q671 : (Jvm.Cond.declares ({ cls := "java/lang/Object", name := "hashCode", desc := "()I" } : Jvm.MethodName)) ∈ lw_tbl := lw_at lw_m2 177 rfl
theorem q673 : (Jvm.Cond.instanceMethod ({ cls := "java/lang/Object", name := "hashCode", desc := "()I" } : Jvm.MethodName)) ∈ lw_all := lw_g (lw_at lw_m2 179 rfl) rfl
theorem q674 : (Jvm.Cond.sameMethod "java/lang/Object" "java/lang/Object" "hashCode" "()I") ∈ lw_all := lw_g (lw_at lw_m2 180 rfl) rfl
theorem q756 : (Jvm.Cond.native ({ cls := "java/lang/Object", name := "hashCode", desc := "()I" } : Jvm.MethodName)) ∈ lw_all := lw_g (lw_at lw_m3 22 rfl) rfl
theorem q823 : (Jvm.Cond.instanceMethod ({ cls := "java/lang/Object", name := "getClass", desc := "()Ljava/lang/Class;" } : Jvm.MethodName)) ∈ lw_all := lw_g (lw_at lw_m3 89 rfl) rfl
theorem q824 : (Jvm.Cond.sameMethod "java/lang/Object" "java/lang/Object" "getClass" "()Ljava/lang/Class;") ∈ lw_all := lw_g (lw_at lw_m3 90 rfl) rfl
theorem q855 : (Jvm.Cond.native ({ cls := "java/lang/Object", name := "getClass", desc := "()Ljava/lang/Class;" } : Jvm.MethodName)) ∈ lw_all := lw_g (lw_at lw_m3 121 rfl) rfl
theorem q1105 : (Jvm.Cond.declares ({ cls := "java/lang/Object", name := "equals", desc := "(Ljava/lang/Object;)Z" } : Jvm.MethodName)) ∈ lw_tbl := lw_at lw_m4 131 rfl
theorem q1107 : (Jvm.Cond.instanceMethod ({ cls := "java/lang/Object", name := "equals", desc := "(Ljava/lang/Object;)Z" } : Jvm.MethodName)) ∈ lw_all := lw_g (lw_at lw_m4 133 rfl) rfl
theorem q1108 : (Jvm.Cond.sameMethod "java/lang/Object" "java/lang/Object" "equals" "(Ljava/lang/Object;)Z") ∈ lw_all := lw_g (lw_at lw_m4 134 rfl) rfl
theorem q1146 : (Jvm.Cond.code ({ cls := "java/lang/Object", name := "equals", desc := "(Ljava/lang/Object;)Z" } : Jvm.MethodName) object_method_4_code (2 : Nat) (Option.some Jvm.ClassFile.FieldType.boolean)) ∈ lw_all := lw_g (lw_at lw_m4 172 rfl) rfl
theorem q4323 : (Jvm.Cond.initialized "java/lang/Object") ∈ lw_all := lw_g (lw_at lw_m17 229 rfl) rfl
theorem q4361 : (Jvm.Cond.declares ({ cls := "java/lang/Object", name := "getClass", desc := "()Ljava/lang/Class;" } : Jvm.MethodName)) ∈ lw_tbl := lw_at lw_m18 27 rfl
/-! java/lang/System$2 -/
set_option maxRecDepth 100000
def RJ31 : String := "java/lang/System$2"
abbrev cJ31_getUTF16Char : ByteArray := prog_42_method_45_code
def yJ31_getUTF16Char : MethodName := ⟨RJ31, "getUTF16Char", "([BI)C"⟩
theorem q727 : (Jvm.Cond.castable "java/lang/System$2" "jdk/internal/access/JavaLangAccess") ∈ lw_tbl := lw_at lw_m2 233 rfl
theorem q728 : (Jvm.Cond.selects "java/lang/System$2" ({ cls := "jdk/internal/access/JavaLangAccess", name := "getUTF16Char", desc := "([BI)C" } : Jvm.MethodName) ({ cls := "java/lang/System$2", name := "getUTF16Char", desc := "([BI)C" } : Jvm.MethodName)) ∈ lw_all := lw_g (lw_at lw_m2 234 rfl) rfl
theorem q729 : (Jvm.Cond.unhidden "java/lang/System$2" "getUTF16Char" "([BI)C") ∈ lw_tbl := lw_at lw_m2 235 rfl
theorem q730 : (Jvm.Cond.instanceMethod ({ cls := "java/lang/System$2", name := "getUTF16Char", desc := "([BI)C" } : Jvm.MethodName)) ∈ lw_all := lw_g (lw_at lw_m2 236 rfl) rfl
theorem q731 : (Jvm.Cond.publicMethod ({ cls := "java/lang/System$2", name := "getUTF16Char", desc := "([BI)C" } : Jvm.MethodName)) ∈ lw_tbl := lw_at lw_m2 237 rfl
theorem q732 : (Jvm.Cond.code ({ cls := "java/lang/System$2", name := "getUTF16Char", desc := "([BI)C" } : Jvm.MethodName) prog_42_method_45_code (3 : Nat) (Option.some Jvm.ClassFile.FieldType.char)) ∈ lw_all := lw_g (lw_at lw_m2 238 rfl) rfl
theorem q733 : (Jvm.Cond.methodLink "java/lang/System$2" (185 : Nat) ({ cls := "java/lang/StringUTF16", name := "getChar", desc := "([BI)C" } : Jvm.MethodName)) ∈ lw_all := lw_g (lw_at lw_m2 239 rfl) rfl
theorem q754 : (Jvm.Cond.selects "java/lang/System$2" ({ cls := "java/lang/Object", name := "hashCode", desc := "()I" } : Jvm.MethodName) ({ cls := "java/lang/Object", name := "hashCode", desc := "()I" } : Jvm.MethodName)) ∈ lw_all := lw_g (lw_at lw_m3 20 rfl) rfl
theorem q847 : (Jvm.Cond.selects "java/lang/System$2" ({ cls := "java/lang/Object", name := "getClass", desc := "()Ljava/lang/Class;" } : Jvm.MethodName) ({ cls := "java/lang/Object", name := "getClass", desc := "()Ljava/lang/Class;" } : Jvm.MethodName)) ∈ lw_all := lw_g (lw_at lw_m3 113 rfl) rfl
theorem q1144 : (Jvm.Cond.selects "java/lang/System$2" ({ cls := "java/lang/Object", name := "equals", desc := "(Ljava/lang/Object;)Z" } : Jvm.MethodName) ({ cls := "java/lang/Object", name := "equals", desc := "(Ljava/lang/Object;)Z" } : Jvm.MethodName)) ∈ lw_all := lw_g (lw_at lw_m4 170 rfl) rfl
theorem q4338 : (Jvm.Cond.castable "java/lang/System$2" "java/lang/Object") ∈ lw_tbl := lw_at lw_m18 4 rfl
theorem q300 : (Jvm.Cond.initialized "WordTongue$Kind") ∈ lw_all := lw_g (lw_at lw_m1 46 rfl) rfl
set_option maxRecDepth 100000
theorem q679 : (Jvm.Cond.selects "WordTongue$Kind" ({ cls := "java/lang/Object", name := "hashCode", desc := "()I" } : Jvm.MethodName) ({ cls := "java/lang/Enum", name := "hashCode", desc := "()I" } : Jvm.MethodName)) ∈ lw_all := lw_g (lw_at lw_m2 185 rfl) rfl
theorem q829 : (Jvm.Cond.selects "WordTongue$Kind" ({ cls := "java/lang/Object", name := "getClass", desc := "()Ljava/lang/Class;" } : Jvm.MethodName) ({ cls := "java/lang/Object", name := "getClass", desc := "()Ljava/lang/Class;" } : Jvm.MethodName)) ∈ lw_all := lw_g (lw_at lw_m3 95 rfl) rfl
theorem q864 : (Jvm.Cond.castable "WordTongue$Kind" "java/lang/Comparable") ∈ lw_tbl := lw_at lw_m3 130 rfl
theorem q865 : (Jvm.Cond.selects "WordTongue$Kind" ({ cls := "java/lang/Comparable", name := "compareTo", desc := "(Ljava/lang/Object;)I" } : Jvm.MethodName) ({ cls := "java/lang/Enum", name := "compareTo", desc := "(Ljava/lang/Object;)I" } : Jvm.MethodName)) ∈ lw_all := lw_g (lw_at lw_m3 131 rfl) rfl
theorem q866 : (Jvm.Cond.unhidden "WordTongue$Kind" "compareTo" "(Ljava/lang/Object;)I") ∈ lw_tbl := lw_at lw_m3 132 rfl
theorem q874 : (Jvm.Cond.selects "WordTongue$Kind" ({ cls := "java/lang/Enum", name := "compareTo", desc := "(Ljava/lang/Enum;)I" } : Jvm.MethodName) ({ cls := "java/lang/Enum", name := "compareTo", desc := "(Ljava/lang/Enum;)I" } : Jvm.MethodName)) ∈ lw_all := lw_g (lw_at lw_m3 140 rfl) rfl
theorem q881 : (Jvm.Cond.selects "WordTongue$Kind" ({ cls := "java/lang/Enum", name := "getDeclaringClass", desc := "()Ljava/lang/Class;" } : Jvm.MethodName) ({ cls := "java/lang/Enum", name := "getDeclaringClass", desc := "()Ljava/lang/Class;" } : Jvm.MethodName)) ∈ lw_all := lw_g (lw_at lw_m3 147 rfl) rfl
theorem q1113 : (Jvm.Cond.selects "WordTongue$Kind" ({ cls := "java/lang/Object", name := "equals", desc := "(Ljava/lang/Object;)Z" } : Jvm.MethodName) ({ cls := "java/lang/Enum", name := "equals", desc := "(Ljava/lang/Object;)Z" } : Jvm.MethodName)) ∈ lw_all := lw_g (lw_at lw_m4 139 rfl) rfl
theorem q2090 : (Jvm.Cond.laysStatic "WordTongue$Kind" "GLOBAL" "LWordTongue$Kind;") ∈ lw_tbl := lw_at lw_m8 156 rfl
theorem q2184 : (Jvm.Cond.laysStatic "WordTongue$Kind" "STATIC" "LWordTongue$Kind;") ∈ lw_tbl := lw_at lw_m9 10 rfl
theorem q2220 : (Jvm.Cond.laysStatic "WordTongue$Kind" "NAME" "LWordTongue$Kind;") ∈ lw_tbl := lw_at lw_m9 46 rfl
theorem q2222 : (Jvm.Cond.laysStatic "WordTongue$Kind" "NUMBER" "LWordTongue$Kind;") ∈ lw_tbl := lw_at lw_m9 48 rfl
theorem q2224 : (Jvm.Cond.laysStatic "WordTongue$Kind" "STRING" "LWordTongue$Kind;") ∈ lw_tbl := lw_at lw_m9 50 rfl
theorem q2229 : (Jvm.Cond.laysStatic "WordTongue$Kind" "VALOF" "LWordTongue$Kind;") ∈ lw_tbl := lw_at lw_m9 55 rfl
theorem q2241 : (Jvm.Cond.laysStatic "WordTongue$Kind" "NOTHING" "LWordTongue$Kind;") ∈ lw_tbl := lw_at lw_m9 67 rfl
theorem q2254 : (Jvm.Cond.laysStatic "WordTongue$Kind" "CALL" "LWordTongue$Kind;") ∈ lw_tbl := lw_at lw_m9 80 rfl
theorem q2257 : (Jvm.Cond.laysStatic "WordTongue$Kind" "DO" "LWordTongue$Kind;") ∈ lw_tbl := lw_at lw_m9 83 rfl
theorem q2265 : (Jvm.Cond.laysStatic "WordTongue$Kind" "ASSIGN" "LWordTongue$Kind;") ∈ lw_tbl := lw_at lw_m9 91 rfl
theorem q2286 : (Jvm.Cond.laysStatic "WordTongue$Kind" "BLOCK" "LWordTongue$Kind;") ∈ lw_tbl := lw_at lw_m9 112 rfl
theorem q2299 : (Jvm.Cond.laysStatic "WordTongue$Kind" "LABEL" "LWordTongue$Kind;") ∈ lw_tbl := lw_at lw_m9 125 rfl
theorem q2342 : (Jvm.Cond.laysStatic "WordTongue$Kind" "IF" "LWordTongue$Kind;") ∈ lw_tbl := lw_at lw_m9 168 rfl
theorem q2361 : (Jvm.Cond.laysStatic "WordTongue$Kind" "UNLESS" "LWordTongue$Kind;") ∈ lw_tbl := lw_at lw_m9 187 rfl
theorem q2363 : (Jvm.Cond.laysStatic "WordTongue$Kind" "WHILE" "LWordTongue$Kind;") ∈ lw_tbl := lw_at lw_m9 189 rfl
theorem q2365 : (Jvm.Cond.laysStatic "WordTongue$Kind" "UNTIL" "LWordTongue$Kind;") ∈ lw_tbl := lw_at lw_m9 191 rfl
theorem q2367 : (Jvm.Cond.laysStatic "WordTongue$Kind" "TEST" "LWordTongue$Kind;") ∈ lw_tbl := lw_at lw_m9 193 rfl
theorem q2375 : (Jvm.Cond.laysStatic "WordTongue$Kind" "FOR" "LWordTongue$Kind;") ∈ lw_tbl := lw_at lw_m9 201 rfl
theorem q2384 : (Jvm.Cond.laysStatic "WordTongue$Kind" "SWITCH" "LWordTongue$Kind;") ∈ lw_tbl := lw_at lw_m9 210 rfl
theorem q2389 : (Jvm.Cond.laysStatic "WordTongue$Kind" "CASE" "LWordTongue$Kind;") ∈ lw_tbl := lw_at lw_m9 215 rfl
theorem q2391 : (Jvm.Cond.laysStatic "WordTongue$Kind" "DEFAULT" "LWordTongue$Kind;") ∈ lw_tbl := lw_at lw_m9 217 rfl
theorem q2393 : (Jvm.Cond.laysStatic "WordTongue$Kind" "BREAK" "LWordTongue$Kind;") ∈ lw_tbl := lw_at lw_m9 219 rfl
theorem q2395 : (Jvm.Cond.laysStatic "WordTongue$Kind" "LOOP" "LWordTongue$Kind;") ∈ lw_tbl := lw_at lw_m9 221 rfl
theorem q2397 : (Jvm.Cond.laysStatic "WordTongue$Kind" "ENDCASE" "LWordTongue$Kind;") ∈ lw_tbl := lw_at lw_m9 223 rfl
theorem q2399 : (Jvm.Cond.laysStatic "WordTongue$Kind" "RETURN" "LWordTongue$Kind;") ∈ lw_tbl := lw_at lw_m9 225 rfl
theorem q2401 : (Jvm.Cond.laysStatic "WordTongue$Kind" "RESULTIS" "LWordTongue$Kind;") ∈ lw_tbl := lw_at lw_m9 227 rfl
theorem q2403 : (Jvm.Cond.laysStatic "WordTongue$Kind" "FINISH" "LWordTongue$Kind;") ∈ lw_tbl := lw_at lw_m9 229 rfl
theorem q2405 : (Jvm.Cond.laysStatic "WordTongue$Kind" "GOTO" "LWordTongue$Kind;") ∈ lw_tbl := lw_at lw_m9 231 rfl
theorem q2410 : (Jvm.Cond.laysStatic "WordTongue$Kind" "REPEAT" "LWordTongue$Kind;") ∈ lw_tbl := lw_at lw_m9 236 rfl
theorem q2412 : (Jvm.Cond.laysStatic "WordTongue$Kind" "REPEATWHILE" "LWordTongue$Kind;") ∈ lw_tbl := lw_at lw_m9 238 rfl
theorem q2414 : (Jvm.Cond.laysStatic "WordTongue$Kind" "REPEATUNTIL" "LWordTongue$Kind;") ∈ lw_tbl := lw_at lw_m10 0 rfl
theorem q2417 : (Jvm.Cond.laysStatic "WordTongue$Kind" "TABLE" "LWordTongue$Kind;") ∈ lw_tbl := lw_at lw_m10 3 rfl
theorem q2427 : (Jvm.Cond.laysStatic "WordTongue$Kind" "LOAD" "LWordTongue$Kind;") ∈ lw_tbl := lw_at lw_m10 13 rfl
theorem q2429 : (Jvm.Cond.laysStatic "WordTongue$Kind" "ADDRESS" "LWordTongue$Kind;") ∈ lw_tbl := lw_at lw_m10 15 rfl
theorem q2432 : (Jvm.Cond.laysStatic "WordTongue$Kind" "BYTE" "LWordTongue$Kind;") ∈ lw_tbl := lw_at lw_m10 18 rfl
theorem q2434 : (Jvm.Cond.laysStatic "WordTongue$Kind" "PLUS" "LWordTongue$Kind;") ∈ lw_tbl := lw_at lw_m10 20 rfl
theorem q2436 : (Jvm.Cond.laysStatic "WordTongue$Kind" "MINUS" "LWordTongue$Kind;") ∈ lw_tbl := lw_at lw_m10 22 rfl
theorem q2438 : (Jvm.Cond.laysStatic "WordTongue$Kind" "NOT" "LWordTongue$Kind;") ∈ lw_tbl := lw_at lw_m10 24 rfl
theorem q2450 : (Jvm.Cond.laysStatic "WordTongue$Kind" "COMPARE" "LWordTongue$Kind;") ∈ lw_tbl := lw_at lw_m10 36 rfl
theorem q2492 : (Jvm.Cond.laysStatic "WordTongue$Kind" "BINARY" "LWordTongue$Kind;") ∈ lw_tbl := lw_at lw_m10 78 rfl
theorem q2495 : (Jvm.Cond.laysStatic "WordTongue$Kind" "CHOOSE" "LWordTongue$Kind;") ∈ lw_tbl := lw_at lw_m10 81 rfl
theorem q2510 : (Jvm.Cond.laysStatic "WordTongue$Kind" "MANIFEST" "LWordTongue$Kind;") ∈ lw_tbl := lw_at lw_m10 96 rfl
theorem q2512 : (Jvm.Cond.laysStatic "WordTongue$Kind" "ROUTINES" "LWordTongue$Kind;") ∈ lw_tbl := lw_at lw_m10 98 rfl
theorem q2518 : (Jvm.Cond.laysStatic "WordTongue$Kind" "ROUTINE" "LWordTongue$Kind;") ∈ lw_tbl := lw_at lw_m10 104 rfl
theorem q2543 : (Jvm.Cond.laysStatic "WordTongue$Kind" "LET" "LWordTongue$Kind;") ∈ lw_tbl := lw_at lw_m10 129 rfl
theorem q2550 : (Jvm.Cond.laysStatic "WordTongue$Kind" "VEC" "LWordTongue$Kind;") ∈ lw_tbl := lw_at lw_m10 136 rfl
theorem q2622 : (Jvm.Cond.sameMethod "WordTongue$Kind" "java/lang/Enum" "ordinal" "()I") ∈ lw_all := lw_g (lw_at lw_m10 208 rfl) rfl
theorem q2624 : (Jvm.Cond.selects "WordTongue$Kind" ({ cls := "WordTongue$Kind", name := "ordinal", desc := "()I" } : Jvm.MethodName) ({ cls := "java/lang/Enum", name := "ordinal", desc := "()I" } : Jvm.MethodName)) ∈ lw_all := lw_g (lw_at lw_m10 210 rfl) rfl
theorem q4324 : (Jvm.Cond.castable "WordTongue$Kind" "java/lang/Enum") ∈ lw_tbl := lw_at lw_m17 230 rfl
theorem q4350 : (Jvm.Cond.castable "WordTongue$Kind" "java/lang/Object") ∈ lw_tbl := lw_at lw_m18 16 rfl
theorem q271 : (Jvm.Cond.initialized "WordTongue$Sort") ∈ lw_all := lw_g (lw_at lw_m1 17 rfl) rfl
set_option maxRecDepth 100000
theorem q624 : (Jvm.Cond.laysStatic "WordTongue$Sort" "ENTRY" "LWordTongue$Sort;") ∈ lw_tbl := lw_at lw_m2 130 rfl
theorem q694 : (Jvm.Cond.selects "WordTongue$Sort" ({ cls := "java/lang/Object", name := "hashCode", desc := "()I" } : Jvm.MethodName) ({ cls := "java/lang/Enum", name := "hashCode", desc := "()I" } : Jvm.MethodName)) ∈ lw_all := lw_g (lw_at lw_m2 200 rfl) rfl
theorem q839 : (Jvm.Cond.selects "WordTongue$Sort" ({ cls := "java/lang/Object", name := "getClass", desc := "()Ljava/lang/Class;" } : Jvm.MethodName) ({ cls := "java/lang/Object", name := "getClass", desc := "()Ljava/lang/Class;" } : Jvm.MethodName)) ∈ lw_all := lw_g (lw_at lw_m3 105 rfl) rfl
theorem q875 : (Jvm.Cond.selects "WordTongue$Sort" ({ cls := "java/lang/Enum", name := "compareTo", desc := "(Ljava/lang/Enum;)I" } : Jvm.MethodName) ({ cls := "java/lang/Enum", name := "compareTo", desc := "(Ljava/lang/Enum;)I" } : Jvm.MethodName)) ∈ lw_all := lw_g (lw_at lw_m3 141 rfl) rfl
theorem q882 : (Jvm.Cond.selects "WordTongue$Sort" ({ cls := "java/lang/Enum", name := "getDeclaringClass", desc := "()Ljava/lang/Class;" } : Jvm.MethodName) ({ cls := "java/lang/Enum", name := "getDeclaringClass", desc := "()Ljava/lang/Class;" } : Jvm.MethodName)) ∈ lw_all := lw_g (lw_at lw_m3 148 rfl) rfl
theorem q884 : (Jvm.Cond.castable "WordTongue$Sort" "java/lang/Comparable") ∈ lw_tbl := lw_at lw_m3 150 rfl
theorem q885 : (Jvm.Cond.selects "WordTongue$Sort" ({ cls := "java/lang/Comparable", name := "compareTo", desc := "(Ljava/lang/Object;)I" } : Jvm.MethodName) ({ cls := "java/lang/Enum", name := "compareTo", desc := "(Ljava/lang/Object;)I" } : Jvm.MethodName)) ∈ lw_all := lw_g (lw_at lw_m3 151 rfl) rfl
theorem q886 : (Jvm.Cond.unhidden "WordTongue$Sort" "compareTo" "(Ljava/lang/Object;)I") ∈ lw_tbl := lw_at lw_m3 152 rfl
theorem q1125 : (Jvm.Cond.selects "WordTongue$Sort" ({ cls := "java/lang/Object", name := "equals", desc := "(Ljava/lang/Object;)Z" } : Jvm.MethodName) ({ cls := "java/lang/Enum", name := "equals", desc := "(Ljava/lang/Object;)Z" } : Jvm.MethodName)) ∈ lw_all := lw_g (lw_at lw_m4 151 rfl) rfl
theorem q2645 : (Jvm.Cond.laysStatic "WordTongue$Sort" "WORD" "LWordTongue$Sort;") ∈ lw_tbl := lw_at lw_m10 231 rfl
theorem q2669 : (Jvm.Cond.laysStatic "WordTongue$Sort" "LOCAL" "LWordTongue$Sort;") ∈ lw_tbl := lw_at lw_m11 15 rfl
theorem q2699 : (Jvm.Cond.laysStatic "WordTongue$Sort" "LABEL" "LWordTongue$Sort;") ∈ lw_tbl := lw_at lw_m11 45 rfl
theorem q2774 : (Jvm.Cond.laysStatic "WordTongue$Sort" "MANIFEST" "LWordTongue$Sort;") ∈ lw_tbl := lw_at lw_m11 120 rfl
theorem q4325 : (Jvm.Cond.castable "WordTongue$Sort" "java/lang/Enum") ∈ lw_tbl := lw_at lw_m17 231 rfl
theorem q4337 : (Jvm.Cond.castable "WordTongue$Sort" "java/lang/Object") ∈ lw_tbl := lw_at lw_m18 3 rfl
theorem q568 : (Jvm.Cond.sameMethod "[B" "java/lang/Object" "clone" "()Ljava/lang/Object;") ∈ lw_all := lw_g (lw_at lw_m2 74 rfl) rfl
set_option maxRecDepth 100000
theorem q571 : (Jvm.Cond.selects "[B" ({ cls := "[B", name := "clone", desc := "()Ljava/lang/Object;" } : Jvm.MethodName) ({ cls := "java/lang/Object", name := "clone", desc := "()Ljava/lang/Object;" } : Jvm.MethodName)) ∈ lw_all := lw_g (lw_at lw_m2 77 rfl) rfl
theorem q572 : (Jvm.Cond.castable "[B" "java/lang/Cloneable") ∈ lw_tbl := lw_at lw_m2 78 rfl
theorem q4362 : (Jvm.Cond.castable "[B" "java/lang/Object") ∈ lw_tbl := lw_at lw_m18 28 rfl
theorem q4363 : (Jvm.Cond.castable "[I" "java/lang/Object") ∈ lw_tbl := lw_at lw_m18 29 rfl
set_option maxRecDepth 100000
theorem q4368 : (Jvm.Cond.castable "[J" "java/lang/Object") ∈ lw_tbl := lw_at lw_m18 34 rfl
set_option maxRecDepth 100000
theorem q4366 : (Jvm.Cond.castable "[LWordTongue$Stream;" "java/lang/Object") ∈ lw_tbl := lw_at lw_m18 32 rfl
set_option maxRecDepth 100000
theorem q4359 : (Jvm.Cond.sameMethod "[Ljava/lang/Object;" "java/lang/Object" "getClass" "()Ljava/lang/Class;") ∈ lw_all := lw_g (lw_at lw_m18 25 rfl) rfl
set_option maxRecDepth 100000
theorem q4360 : (Jvm.Cond.selects "[Ljava/lang/Object;" ({ cls := "java/lang/Object", name := "getClass", desc := "()Ljava/lang/Class;" } : Jvm.MethodName) ({ cls := "java/lang/Object", name := "getClass", desc := "()Ljava/lang/Class;" } : Jvm.MethodName)) ∈ lw_all := lw_g (lw_at lw_m18 26 rfl) rfl
theorem q4367 : (Jvm.Cond.castable "[Ljava/lang/Object;" "java/lang/Object") ∈ lw_tbl := lw_at lw_m18 33 rfl
theorem q4365 : (Jvm.Cond.castable "[Ljava/util/HashMap$Node;" "java/lang/Object") ∈ lw_tbl := lw_at lw_m18 31 rfl
set_option maxRecDepth 100000
theorem q4364 : (Jvm.Cond.castable "[Z" "java/lang/Object") ∈ lw_tbl := lw_at lw_m18 30 rfl
set_option maxRecDepth 100000
theorem q862 : (Jvm.Cond.interfaceMethod "java/lang/Comparable" "java/lang/Comparable" "compareTo" "(Ljava/lang/Object;)I") ∈ lw_tbl := lw_at lw_m3 128 rfl
set_option maxRecDepth 100000
theorem q863 : (Jvm.Cond.declares ({ cls := "java/lang/Comparable", name := "compareTo", desc := "(Ljava/lang/Object;)I" } : Jvm.MethodName)) ∈ lw_tbl := lw_at lw_m3 129 rfl
theorem q304 : (Jvm.Cond.initialized "java/lang/Integer$IntegerCache") ∈ lw_all := lw_g (lw_at lw_m1 50 rfl) rfl
set_option maxRecDepth 100000
theorem q2736 : (Jvm.Cond.laysStatic "java/lang/Integer$IntegerCache" "high" "I") ∈ lw_tbl := lw_at lw_m11 82 rfl
theorem q2738 : (Jvm.Cond.laysStatic "java/lang/Integer$IntegerCache" "cache" "[Ljava/lang/Integer;") ∈ lw_tbl := lw_at lw_m11 84 rfl
theorem q268 : (Jvm.Cond.initialized "java/lang/System") ∈ lw_all := lw_g (lw_at lw_m1 14 rfl) rfl
set_option maxRecDepth 100000
theorem q565 : (Jvm.Cond.static ({ cls := "java/lang/System", name := "arraycopy", desc := "(Ljava/lang/Object;ILjava/lang/Object;II)V" } : Jvm.MethodName)) ∈ lw_all := lw_g (lw_at lw_m2 71 rfl) rfl
theorem q566 : (Jvm.Cond.native ({ cls := "java/lang/System", name := "arraycopy", desc := "(Ljava/lang/Object;ILjava/lang/Object;II)V" } : Jvm.MethodName)) ∈ lw_all := lw_g (lw_at lw_m2 72 rfl) rfl
theorem q683 : (Jvm.Cond.static ({ cls := "java/lang/System", name := "identityHashCode", desc := "(Ljava/lang/Object;)I" } : Jvm.MethodName)) ∈ lw_all := lw_g (lw_at lw_m2 189 rfl) rfl
theorem q684 : (Jvm.Cond.native ({ cls := "java/lang/System", name := "identityHashCode", desc := "(Ljava/lang/Object;)I" } : Jvm.MethodName)) ∈ lw_all := lw_g (lw_at lw_m2 190 rfl) rfl
theorem q1425 : (Jvm.Cond.interfaceMethod "java/util/List" "java/util/List" "add" "(Ljava/lang/Object;)Z") ∈ lw_tbl := lw_at lw_m5 211 rfl
set_option maxRecDepth 100000
theorem q1426 : (Jvm.Cond.declares ({ cls := "java/util/List", name := "add", desc := "(Ljava/lang/Object;)Z" } : Jvm.MethodName)) ∈ lw_tbl := lw_at lw_m5 212 rfl
theorem q1988 : (Jvm.Cond.interfaceMethod "java/util/List" "java/util/List" "isEmpty" "()Z") ∈ lw_tbl := lw_at lw_m8 54 rfl
theorem q1989 : (Jvm.Cond.declares ({ cls := "java/util/List", name := "isEmpty", desc := "()Z" } : Jvm.MethodName)) ∈ lw_tbl := lw_at lw_m8 55 rfl
theorem q1997 : (Jvm.Cond.interfaceMethod "java/util/List" "java/util/List" "size" "()I") ∈ lw_tbl := lw_at lw_m8 63 rfl
theorem q1998 : (Jvm.Cond.declares ({ cls := "java/util/List", name := "size", desc := "()I" } : Jvm.MethodName)) ∈ lw_tbl := lw_at lw_m8 64 rfl
theorem q2006 : (Jvm.Cond.interfaceMethod "java/util/List" "java/util/List" "get" "(I)Ljava/lang/Object;") ∈ lw_tbl := lw_at lw_m8 72 rfl
theorem q2007 : (Jvm.Cond.declares ({ cls := "java/util/List", name := "get", desc := "(I)Ljava/lang/Object;" } : Jvm.MethodName)) ∈ lw_tbl := lw_at lw_m8 73 rfl
theorem q2306 : (Jvm.Cond.interfaceMethod "java/util/List" "java/util/List" "remove" "(I)Ljava/lang/Object;") ∈ lw_tbl := lw_at lw_m9 132 rfl
theorem q2307 : (Jvm.Cond.declares ({ cls := "java/util/List", name := "remove", desc := "(I)Ljava/lang/Object;" } : Jvm.MethodName)) ∈ lw_tbl := lw_at lw_m9 133 rfl
theorem q2325 : (Jvm.Cond.interfaceMethod "java/util/List" "java/util/List" "contains" "(Ljava/lang/Object;)Z") ∈ lw_tbl := lw_at lw_m9 151 rfl
theorem q2326 : (Jvm.Cond.declares ({ cls := "java/util/List", name := "contains", desc := "(Ljava/lang/Object;)Z" } : Jvm.MethodName)) ∈ lw_tbl := lw_at lw_m9 152 rfl
theorem q660 : (Jvm.Cond.interfaceMethod "java/util/Map" "java/util/Map" "put" "(Ljava/lang/Object;Ljava/lang/Object;)Ljava/lang/Object;") ∈ lw_tbl := lw_at lw_m2 166 rfl
set_option maxRecDepth 100000
theorem q661 : (Jvm.Cond.declares ({ cls := "java/util/Map", name := "put", desc := "(Ljava/lang/Object;Ljava/lang/Object;)Ljava/lang/Object;" } : Jvm.MethodName)) ∈ lw_tbl := lw_at lw_m2 167 rfl
theorem q2634 : (Jvm.Cond.interfaceMethod "java/util/Map" "java/util/Map" "get" "(Ljava/lang/Object;)Ljava/lang/Object;") ∈ lw_tbl := lw_at lw_m10 220 rfl
theorem q2635 : (Jvm.Cond.declares ({ cls := "java/util/Map", name := "get", desc := "(Ljava/lang/Object;)Ljava/lang/Object;" } : Jvm.MethodName)) ∈ lw_tbl := lw_at lw_m10 221 rfl
theorem q2498 : (Jvm.Cond.interfaceMethod "java/util/Set" "java/util/Set" "add" "(Ljava/lang/Object;)Z") ∈ lw_tbl := lw_at lw_m10 84 rfl
set_option maxRecDepth 100000
theorem q2499 : (Jvm.Cond.declares ({ cls := "java/util/Set", name := "add", desc := "(Ljava/lang/Object;)Z" } : Jvm.MethodName)) ∈ lw_tbl := lw_at lw_m10 85 rfl
theorem q2521 : (Jvm.Cond.interfaceMethod "java/util/Set" "java/util/Set" "contains" "(Ljava/lang/Object;)Z") ∈ lw_tbl := lw_at lw_m10 107 rfl
theorem q2522 : (Jvm.Cond.declares ({ cls := "java/util/Set", name := "contains", desc := "(Ljava/lang/Object;)Z" } : Jvm.MethodName)) ∈ lw_tbl := lw_at lw_m10 108 rfl
theorem q725 : (Jvm.Cond.interfaceMethod "jdk/internal/access/JavaLangAccess" "jdk/internal/access/JavaLangAccess" "getUTF16Char" "([BI)C") ∈ lw_tbl := lw_at lw_m2 231 rfl
set_option maxRecDepth 100000
theorem q726 : (Jvm.Cond.declares ({ cls := "jdk/internal/access/JavaLangAccess", name := "getUTF16Char", desc := "([BI)C" } : Jvm.MethodName)) ∈ lw_tbl := lw_at lw_m2 232 rfl
theorem q277 : (Jvm.Cond.initialized "jdk/internal/misc/UnsafeConstants") ∈ lw_all := lw_g (lw_at lw_m1 23 rfl) rfl
set_option maxRecDepth 100000
theorem q959 : (Jvm.Cond.laysStatic "jdk/internal/misc/UnsafeConstants" "BIG_ENDIAN" "Z") ∈ lw_tbl := lw_at lw_m3 225 rfl
theorem q345 : (Jvm.Cond.arrayClass Jvm.ClassFile.FieldType.byte) ∈ lw_all := lw_g (lw_at lw_m1 91 rfl) rfl
set_option maxRecDepth 100000
theorem q346 : (Jvm.Cond.arrayClass Jvm.ClassFile.FieldType.int) ∈ lw_all := lw_g (lw_at lw_m1 92 rfl) rfl
theorem q419 : (Jvm.Cond.arrayClass Jvm.ClassFile.FieldType.boolean) ∈ lw_all := lw_g (lw_at lw_m1 165 rfl) rfl
theorem q769 : (Jvm.Cond.arrayOver (Jvm.ClassFile.FieldType.object "java/util/HashMap$Node")) ∈ lw_tbl := lw_at lw_m3 35 rfl
theorem q1215 : (Jvm.Cond.arrayOver (Jvm.ClassFile.FieldType.object "WordTongue$Stream")) ∈ lw_tbl := lw_at lw_m5 1 rfl
theorem q1463 : (Jvm.Cond.arrayOver (Jvm.ClassFile.FieldType.object "java/lang/Object")) ∈ lw_tbl := lw_at lw_m6 9 rfl
theorem q4307 : (Jvm.Cond.arrayClass Jvm.ClassFile.FieldType.long) ∈ lw_all := lw_g (lw_at lw_m17 213 rfl) rfl
theorem q4369 : (Jvm.Cond.arrayClass Jvm.ClassFile.FieldType.char) ∈ lw_all := lw_g (lw_at lw_m18 35 rfl) rfl
theorem q4370 : (Jvm.Cond.arrayClass Jvm.ClassFile.FieldType.short) ∈ lw_all := lw_g (lw_at lw_m18 36 rfl) rfl
