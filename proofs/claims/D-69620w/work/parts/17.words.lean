/-! ===== words of the tables, out of claim/names ===== -/
set_option maxRecDepth 100000
theorem qs224 : (Cond.selects "CodeLayoutModel" ⟨"CodeLayoutModel", "newOf", "(II)J"⟩ ⟨"CodeLayoutModel", "newOf", "(II)J"⟩) ∈ lw_all := lw_g (lw_at lw_ms 224 rfl) rfl
theorem q226 : (Jvm.Cond.initialized "CodeLayout") ∈ lw_all := lw_g (lw_at lw_m1 1 rfl) rfl
theorem q227 : (Jvm.Cond.initialized "CodeLayout$Program") ∈ lw_all := lw_g (lw_at lw_m1 2 rfl) rfl
theorem q228 : (Jvm.Cond.initialized "CodeLayout$Trouble") ∈ lw_all := lw_g (lw_at lw_m1 3 rfl) rfl
theorem q229 : (Jvm.Cond.initialized "java/lang/Throwable") ∈ lw_all := lw_g (lw_at lw_m1 4 rfl) rfl
theorem q232 : (Jvm.Cond.initialized "java/lang/IllegalStateException") ∈ lw_all := lw_g (lw_at lw_m1 7 rfl) rfl
theorem q233 : (Jvm.Cond.initialized "CodeLayout$Shape") ∈ lw_all := lw_g (lw_at lw_m1 8 rfl) rfl
theorem q235 : (Jvm.Cond.initialized "CodeLayout$Held") ∈ lw_all := lw_g (lw_at lw_m1 10 rfl) rfl
theorem q236 : (Jvm.Cond.initialized "CodeLayout$Row") ∈ lw_all := lw_g (lw_at lw_m1 11 rfl) rfl
theorem q237 : (Jvm.Cond.initialized "CodeLayout$Counts") ∈ lw_all := lw_g (lw_at lw_m1 12 rfl) rfl
theorem q240 : (Jvm.Cond.initialized "java/util/ArrayList") ∈ lw_all := lw_g (lw_at lw_m1 15 rfl) rfl
theorem q241 : (Jvm.Cond.initialized "CodeLayoutModel") ∈ lw_all := lw_g (lw_at lw_m1 16 rfl) rfl
theorem q242 : (Jvm.Cond.initialized "CodeLayoutModel$Heads") ∈ lw_all := lw_g (lw_at lw_m1 17 rfl) rfl
theorem q243 : (Jvm.Cond.initialized "CodeLayoutModel$Written") ∈ lw_all := lw_g (lw_at lw_m1 18 rfl) rfl
theorem q244 : (Jvm.Cond.initialized "CodeLayoutModel$Run") ∈ lw_all := lw_g (lw_at lw_m1 19 rfl) rfl
theorem q245 : (Jvm.Cond.initialized "java/lang/System") ∈ lw_all := lw_g (lw_at lw_m1 20 rfl) rfl
theorem q246 : (Jvm.Cond.initialized "java/lang/Math") ∈ lw_all := lw_g (lw_at lw_m1 21 rfl) rfl
theorem q247 : (Jvm.Cond.initialized "CodeLayout$Words") ∈ lw_all := lw_g (lw_at lw_m1 22 rfl) rfl
theorem q248 : (Jvm.Cond.initialized "CodeLayout$Ordering") ∈ lw_all := lw_g (lw_at lw_m1 23 rfl) rfl
theorem q249 : (Jvm.Cond.initialized "CodeLayout$Writing") ∈ lw_all := lw_g (lw_at lw_m1 24 rfl) rfl
theorem q252 : (Jvm.Cond.initialized "CodeLayout$Machine") ∈ lw_all := lw_g (lw_at lw_m1 27 rfl) rfl
theorem q253 : (Jvm.Cond.initialized "CodeLayout$Halt") ∈ lw_all := lw_g (lw_at lw_m1 28 rfl) rfl
theorem q254 : (Jvm.Cond.initialized "CodeLayout$Memory") ∈ lw_all := lw_g (lw_at lw_m1 29 rfl) rfl
theorem q255 : (Jvm.Cond.initialized "java/util/Objects") ∈ lw_all := lw_g (lw_at lw_m1 30 rfl) rfl
theorem q256 : (Jvm.Cond.initialized "jdk/internal/util/Preconditions") ∈ lw_all := lw_g (lw_at lw_m1 31 rfl) rfl
theorem q257 : (Jvm.Cond.initialized "java/lang/Long") ∈ lw_all := lw_g (lw_at lw_m1 32 rfl) rfl
theorem q258 : (Jvm.Cond.classLink "CodeLayoutLaw" (7 : Nat) "CodeLayout") ∈ lw_all := lw_g (lw_at lw_m1 33 rfl) rfl
theorem q259 : (Jvm.Cond.instantiable "CodeLayout" (24 : Nat)) ∈ lw_all := lw_g (lw_at lw_m1 34 rfl) rfl
theorem q260 : (Jvm.Cond.methodLink "CodeLayoutLaw" (9 : Nat) ({ cls := "CodeLayout", name := "<init>", desc := "()V" } : Jvm.MethodName)) ∈ lw_all := lw_g (lw_at lw_m1 35 rfl) rfl
theorem q261 : (Jvm.Cond.instanceMethod ({ cls := "CodeLayout", name := "<init>", desc := "()V" } : Jvm.MethodName)) ∈ lw_all := lw_g (lw_at lw_m1 36 rfl) rfl
theorem q262 : (Jvm.Cond.code ({ cls := "CodeLayout", name := "<init>", desc := "()V" } : Jvm.MethodName) prog_1_method_3_code (1 : Nat) (Option.none : Option Jvm.ClassFile.FieldType)) ∈ lw_all := lw_g (lw_at lw_m1 37 rfl) rfl
theorem q263 : (Jvm.Cond.methodLink "CodeLayout" (11 : Nat) ({ cls := "java/lang/Object", name := "<init>", desc := "()V" } : Jvm.MethodName)) ∈ lw_all := lw_g (lw_at lw_m1 38 rfl) rfl
theorem q264 : (Jvm.Cond.instanceMethod ({ cls := "java/lang/Object", name := "<init>", desc := "()V" } : Jvm.MethodName)) ∈ lw_all := lw_g (lw_at lw_m1 39 rfl) rfl
theorem q265 : (Jvm.Cond.code ({ cls := "java/lang/Object", name := "<init>", desc := "()V" } : Jvm.MethodName) object_method_1_code (1 : Nat) (Option.none : Option Jvm.ClassFile.FieldType)) ∈ lw_all := lw_g (lw_at lw_m1 40 rfl) rfl
theorem q266 : (Jvm.Cond.constant "CodeLayout" (17 : Nat) (60000 : Int32)) ∈ lw_all := lw_g (lw_at lw_m1 41 rfl) rfl
theorem q267 : (Jvm.Cond.classLink "CodeLayout" (26 : Nat) "CodeLayout$Program") ∈ lw_all := lw_g (lw_at lw_m1 42 rfl) rfl
theorem q268 : (Jvm.Cond.instantiable "CodeLayout$Program" (18 : Nat)) ∈ lw_all := lw_g (lw_at lw_m1 43 rfl) rfl
theorem q269 : (Jvm.Cond.methodLinkNest "CodeLayout" (28 : Nat) ({ cls := "CodeLayout$Program", name := "<init>", desc := "()V" } : Jvm.MethodName) "CodeLayout") ∈ lw_tbl := lw_at lw_m1 44 rfl
theorem q270 : (Jvm.Cond.instanceMethod ({ cls := "CodeLayout$Program", name := "<init>", desc := "()V" } : Jvm.MethodName)) ∈ lw_all := lw_g (lw_at lw_m1 45 rfl) rfl
theorem q271 : (Jvm.Cond.code ({ cls := "CodeLayout$Program", name := "<init>", desc := "()V" } : Jvm.MethodName) prog_8_method_1_code (1 : Nat) (Option.none : Option Jvm.ClassFile.FieldType)) ∈ lw_all := lw_g (lw_at lw_m1 46 rfl) rfl
theorem q272 : (Jvm.Cond.methodLink "CodeLayout$Program" (1 : Nat) ({ cls := "java/lang/Object", name := "<init>", desc := "()V" } : Jvm.MethodName)) ∈ lw_all := lw_g (lw_at lw_m1 47 rfl) rfl
theorem q273 : (Jvm.Cond.classLink "CodeLayout$Program" (7 : Nat) "CodeLayout$Trouble") ∈ lw_all := lw_g (lw_at lw_m1 48 rfl) rfl
theorem q274 : (Jvm.Cond.instantiable "CodeLayout$Trouble" (3 : Nat)) ∈ lw_all := lw_g (lw_at lw_m1 49 rfl) rfl
theorem q275 : (Jvm.Cond.methodLinkNest "CodeLayout$Program" (9 : Nat) ({ cls := "CodeLayout$Trouble", name := "<init>", desc := "()V" } : Jvm.MethodName) "CodeLayout") ∈ lw_tbl := lw_at lw_m1 50 rfl
theorem q276 : (Jvm.Cond.instanceMethod ({ cls := "CodeLayout$Trouble", name := "<init>", desc := "()V" } : Jvm.MethodName)) ∈ lw_all := lw_g (lw_at lw_m1 51 rfl) rfl
theorem q277 : (Jvm.Cond.code ({ cls := "CodeLayout$Trouble", name := "<init>", desc := "()V" } : Jvm.MethodName) prog_12_method_1_code (1 : Nat) (Option.none : Option Jvm.ClassFile.FieldType)) ∈ lw_all := lw_g (lw_at lw_m1 52 rfl) rfl
theorem q278 : (Jvm.Cond.methodLink "CodeLayout$Trouble" (1 : Nat) ({ cls := "java/lang/Object", name := "<init>", desc := "()V" } : Jvm.MethodName)) ∈ lw_all := lw_g (lw_at lw_m1 53 rfl) rfl
theorem q279 : (Jvm.Cond.classLink "CodeLayout$Trouble" (7 : Nat) "java/lang/IllegalStateException") ∈ lw_all := lw_g (lw_at lw_m1 54 rfl) rfl
theorem q280 : (Jvm.Cond.instantiable "java/lang/IllegalStateException" (6 : Nat)) ∈ lw_all := lw_g (lw_at lw_m1 55 rfl) rfl
theorem q282 : (Jvm.Cond.declares ({ cls := "java/lang/RuntimeException", name := "<init>", desc := "()V" } : Jvm.MethodName)) ∈ lw_tbl := lw_at lw_m1 57 rfl
theorem q284 : (Jvm.Cond.declares ({ cls := "java/lang/Exception", name := "<init>", desc := "()V" } : Jvm.MethodName)) ∈ lw_tbl := lw_at lw_m1 59 rfl
theorem q286 : (Jvm.Cond.declares ({ cls := "java/lang/Throwable", name := "<init>", desc := "()V" } : Jvm.MethodName)) ∈ lw_tbl := lw_at lw_m1 61 rfl
theorem q288 : (Jvm.Cond.selects "java/lang/IllegalStateException" ({ cls := "java/lang/Throwable", name := "fillInStackTrace", desc := "(I)Ljava/lang/Throwable;" } : Jvm.MethodName) ({ cls := "java/lang/Throwable", name := "fillInStackTrace", desc := "(I)Ljava/lang/Throwable;" } : Jvm.MethodName)) ∈ lw_all := lw_g (lw_at lw_m1 63 rfl) rfl
theorem q289 : (Jvm.Cond.selects "java/lang/IllegalStateException" ({ cls := "java/lang/Throwable", name := "fillInStackTrace", desc := "()Ljava/lang/Throwable;" } : Jvm.MethodName) ({ cls := "java/lang/Throwable", name := "fillInStackTrace", desc := "()Ljava/lang/Throwable;" } : Jvm.MethodName)) ∈ lw_all := lw_g (lw_at lw_m1 64 rfl) rfl
theorem q290 : (Jvm.Cond.lays "java/lang/IllegalStateException" "java/lang/Throwable" "cause" "Ljava/lang/Throwable;") ∈ lw_all := lw_g (lw_at lw_m1 65 rfl) rfl
theorem q291 : (Jvm.Cond.lays "java/lang/Throwable" "java/lang/Throwable" "cause" "Ljava/lang/Throwable;") ∈ lw_all := lw_g (lw_at lw_m1 66 rfl) rfl
theorem q292 : (Jvm.Cond.lays "java/lang/IllegalStateException" "java/lang/Throwable" "stackTrace" "[Ljava/lang/StackTraceElement;") ∈ lw_all := lw_g (lw_at lw_m1 67 rfl) rfl
theorem q293 : (Jvm.Cond.lays "java/lang/Throwable" "java/lang/Throwable" "stackTrace" "[Ljava/lang/StackTraceElement;") ∈ lw_all := lw_g (lw_at lw_m1 68 rfl) rfl
theorem q294 : (Jvm.Cond.lays "java/lang/IllegalStateException" "java/lang/Throwable" "suppressedExceptions" "Ljava/util/List;") ∈ lw_all := lw_g (lw_at lw_m1 69 rfl) rfl
theorem q295 : (Jvm.Cond.lays "java/lang/Throwable" "java/lang/Throwable" "suppressedExceptions" "Ljava/util/List;") ∈ lw_all := lw_g (lw_at lw_m1 70 rfl) rfl
theorem q297 : (Jvm.Cond.lays "java/lang/Throwable" "java/lang/Throwable" "detailMessage" "Ljava/lang/String;") ∈ lw_all := lw_g (lw_at lw_m1 72 rfl) rfl
theorem q298 : (Jvm.Cond.lays "java/lang/IllegalStateException" "java/lang/Throwable" "backtrace" "Ljava/lang/Object;") ∈ lw_all := lw_g (lw_at lw_m1 73 rfl) rfl
theorem q299 : (Jvm.Cond.lays "java/lang/Throwable" "java/lang/Throwable" "backtrace" "Ljava/lang/Object;") ∈ lw_all := lw_g (lw_at lw_m1 74 rfl) rfl
theorem q301 : (Jvm.Cond.superclass "java/lang/Throwable" "java/lang/Object") ∈ lw_all := lw_g (lw_at lw_m1 76 rfl) rfl
theorem q302 : (Jvm.Cond.instanceMethod ({ cls := "java/lang/Throwable", name := "<init>", desc := "()V" } : Jvm.MethodName)) ∈ lw_all := lw_g (lw_at lw_m1 77 rfl) rfl
theorem q303 : (Jvm.Cond.code ({ cls := "java/lang/Throwable", name := "<init>", desc := "()V" } : Jvm.MethodName) prog_29_method_1_code (1 : Nat) (Option.none : Option Jvm.ClassFile.FieldType)) ∈ lw_all := lw_g (lw_at lw_m1 78 rfl) rfl
theorem q304 : (Jvm.Cond.methodLink "java/lang/Throwable" (1 : Nat) ({ cls := "java/lang/Object", name := "<init>", desc := "()V" } : Jvm.MethodName)) ∈ lw_all := lw_g (lw_at lw_m1 79 rfl) rfl
theorem q305 : (Jvm.Cond.fieldLink "java/lang/Throwable" (13 : Nat) "java/lang/Throwable" "UNASSIGNED_STACK" "[Ljava/lang/StackTraceElement;") ∈ lw_all := lw_g (lw_at lw_m1 80 rfl) rfl
theorem q306 : (Jvm.Cond.laysStatic "java/lang/Throwable" "UNASSIGNED_STACK" "[Ljava/lang/StackTraceElement;") ∈ lw_tbl := lw_at lw_m1 81 rfl
theorem q307 : (Jvm.Cond.fieldLink "java/lang/Throwable" (20 : Nat) "java/lang/Throwable" "SUPPRESSED_SENTINEL" "Ljava/util/List;") ∈ lw_all := lw_g (lw_at lw_m1 82 rfl) rfl
theorem q308 : (Jvm.Cond.laysStatic "java/lang/Throwable" "SUPPRESSED_SENTINEL" "Ljava/util/List;") ∈ lw_tbl := lw_at lw_m1 83 rfl
theorem q309 : (Jvm.Cond.methodLink "java/lang/Throwable" (27 : Nat) ({ cls := "java/lang/Throwable", name := "fillInStackTrace", desc := "()Ljava/lang/Throwable;" } : Jvm.MethodName)) ∈ lw_all := lw_g (lw_at lw_m1 84 rfl) rfl
theorem q310 : (Jvm.Cond.instanceMethod ({ cls := "java/lang/Throwable", name := "fillInStackTrace", desc := "()Ljava/lang/Throwable;" } : Jvm.MethodName)) ∈ lw_all := lw_g (lw_at lw_m1 85 rfl) rfl
theorem q312 : (Jvm.Cond.codeSync ({ cls := "java/lang/Throwable", name := "fillInStackTrace", desc := "()Ljava/lang/Throwable;" } : Jvm.MethodName) prog_29_method_18_code (1 : Nat) (Option.some (Jvm.ClassFile.FieldType.object "java/lang/Throwable"))) ∈ lw_all := lw_g (lw_at lw_m1 87 rfl) rfl
theorem q313 : (Jvm.Cond.methodLink "java/lang/Throwable" (202 : Nat) ({ cls := "java/lang/Throwable", name := "fillInStackTrace", desc := "(I)Ljava/lang/Throwable;" } : Jvm.MethodName)) ∈ lw_all := lw_g (lw_at lw_m1 88 rfl) rfl
theorem q315 : (Jvm.Cond.instanceMethod ({ cls := "java/lang/Throwable", name := "fillInStackTrace", desc := "(I)Ljava/lang/Throwable;" } : Jvm.MethodName)) ∈ lw_all := lw_g (lw_at lw_m1 90 rfl) rfl
theorem q317 : (Jvm.Cond.native ({ cls := "java/lang/Throwable", name := "fillInStackTrace", desc := "(I)Ljava/lang/Throwable;" } : Jvm.MethodName)) ∈ lw_all := lw_g (lw_at lw_m1 92 rfl) rfl
theorem q318 : (Jvm.Cond.methodLink "CodeLayout$Trouble" (9 : Nat) ({ cls := "java/lang/IllegalStateException", name := "<init>", desc := "()V" } : Jvm.MethodName)) ∈ lw_all := lw_g (lw_at lw_m1 93 rfl) rfl
theorem q319 : (Jvm.Cond.instanceMethod ({ cls := "java/lang/IllegalStateException", name := "<init>", desc := "()V" } : Jvm.MethodName)) ∈ lw_all := lw_g (lw_at lw_m1 94 rfl) rfl
theorem q320 : (Jvm.Cond.code ({ cls := "java/lang/IllegalStateException", name := "<init>", desc := "()V" } : Jvm.MethodName) prog_23_method_1_code (1 : Nat) (Option.none : Option Jvm.ClassFile.FieldType)) ∈ lw_all := lw_g (lw_at lw_m1 95 rfl) rfl
theorem q321 : (Jvm.Cond.methodLink "java/lang/IllegalStateException" (1 : Nat) ({ cls := "java/lang/RuntimeException", name := "<init>", desc := "()V" } : Jvm.MethodName)) ∈ lw_all := lw_g (lw_at lw_m1 96 rfl) rfl
theorem q322 : (Jvm.Cond.instanceMethod ({ cls := "java/lang/RuntimeException", name := "<init>", desc := "()V" } : Jvm.MethodName)) ∈ lw_all := lw_g (lw_at lw_m1 97 rfl) rfl
theorem q323 : (Jvm.Cond.code ({ cls := "java/lang/RuntimeException", name := "<init>", desc := "()V" } : Jvm.MethodName) prog_27_method_1_code (1 : Nat) (Option.none : Option Jvm.ClassFile.FieldType)) ∈ lw_all := lw_g (lw_at lw_m1 98 rfl) rfl
theorem q324 : (Jvm.Cond.methodLink "java/lang/RuntimeException" (1 : Nat) ({ cls := "java/lang/Exception", name := "<init>", desc := "()V" } : Jvm.MethodName)) ∈ lw_all := lw_g (lw_at lw_m1 99 rfl) rfl
theorem q325 : (Jvm.Cond.instanceMethod ({ cls := "java/lang/Exception", name := "<init>", desc := "()V" } : Jvm.MethodName)) ∈ lw_all := lw_g (lw_at lw_m1 100 rfl) rfl
theorem q326 : (Jvm.Cond.code ({ cls := "java/lang/Exception", name := "<init>", desc := "()V" } : Jvm.MethodName) prog_22_method_1_code (1 : Nat) (Option.none : Option Jvm.ClassFile.FieldType)) ∈ lw_all := lw_g (lw_at lw_m1 101 rfl) rfl
theorem q327 : (Jvm.Cond.methodLink "java/lang/Exception" (1 : Nat) ({ cls := "java/lang/Throwable", name := "<init>", desc := "()V" } : Jvm.MethodName)) ∈ lw_all := lw_g (lw_at lw_m1 102 rfl) rfl
theorem q328 : (Jvm.Cond.fieldLink "java/lang/Throwable" (198 : Nat) "java/lang/Throwable" "backtrace" "Ljava/lang/Object;") ∈ lw_all := lw_g (lw_at lw_m1 103 rfl) rfl
theorem q329 : (Jvm.Cond.fieldLink "java/lang/Throwable" (7 : Nat) "java/lang/Throwable" "cause" "Ljava/lang/Throwable;") ∈ lw_all := lw_g (lw_at lw_m1 104 rfl) rfl
theorem q330 : (Jvm.Cond.fieldLink "java/lang/Throwable" (17 : Nat) "java/lang/Throwable" "stackTrace" "[Ljava/lang/StackTraceElement;") ∈ lw_all := lw_g (lw_at lw_m1 105 rfl) rfl
theorem q331 : (Jvm.Cond.fieldLink "java/lang/Throwable" (24 : Nat) "java/lang/Throwable" "suppressedExceptions" "Ljava/util/List;") ∈ lw_all := lw_g (lw_at lw_m1 106 rfl) rfl
theorem q340 : (Jvm.Cond.arrayClass Jvm.ClassFile.FieldType.byte) ∈ lw_all := lw_g (lw_at lw_m1 115 rfl) rfl
theorem q341 : (Jvm.Cond.fieldLink "CodeLayout$Trouble" (16 : Nat) "CodeLayout$Trouble" "rule" "I") ∈ lw_all := lw_g (lw_at lw_m1 116 rfl) rfl
theorem q342 : (Jvm.Cond.fieldLink "CodeLayout$Program" (97 : Nat) "CodeLayout$Trouble" "rule" "I") ∈ lw_all := lw_g (lw_at lw_m1 117 rfl) rfl
theorem q343 : (Jvm.Cond.fieldLink "CodeLayout" (348 : Nat) "CodeLayout$Trouble" "rule" "I") ∈ lw_all := lw_g (lw_at lw_m1 118 rfl) rfl
theorem q344 : (Jvm.Cond.fieldLink "CodeLayout$Trouble" (20 : Nat) "CodeLayout$Trouble" "place" "I") ∈ lw_all := lw_g (lw_at lw_m1 119 rfl) rfl
theorem q345 : (Jvm.Cond.fieldLink "CodeLayout$Program" (94 : Nat) "CodeLayout$Trouble" "place" "I") ∈ lw_all := lw_g (lw_at lw_m1 120 rfl) rfl
theorem q346 : (Jvm.Cond.fieldLink "CodeLayout$Trouble" (10 : Nat) "CodeLayout$Trouble" "stop" "Ljava/lang/IllegalStateException;") ∈ lw_all := lw_g (lw_at lw_m1 121 rfl) rfl
theorem q354 : (Jvm.Cond.classLink "CodeLayout$Program" (16 : Nat) "CodeLayout$Shape") ∈ lw_all := lw_g (lw_at lw_m1 129 rfl) rfl
theorem q355 : (Jvm.Cond.instantiable "CodeLayout$Shape" (22 : Nat)) ∈ lw_all := lw_g (lw_at lw_m1 130 rfl) rfl
theorem q356 : (Jvm.Cond.methodLink "CodeLayout$Program" (18 : Nat) ({ cls := "CodeLayout$Shape", name := "<init>", desc := "(LCodeLayout$Trouble;)V" } : Jvm.MethodName)) ∈ lw_all := lw_g (lw_at lw_m1 131 rfl) rfl
theorem q357 : (Jvm.Cond.instanceMethod ({ cls := "CodeLayout$Shape", name := "<init>", desc := "(LCodeLayout$Trouble;)V" } : Jvm.MethodName)) ∈ lw_all := lw_g (lw_at lw_m1 132 rfl) rfl
theorem q358 : (Jvm.Cond.code ({ cls := "CodeLayout$Shape", name := "<init>", desc := "(LCodeLayout$Trouble;)V" } : Jvm.MethodName) prog_10_method_1_code (2 : Nat) (Option.none : Option Jvm.ClassFile.FieldType)) ∈ lw_all := lw_g (lw_at lw_m1 133 rfl) rfl
theorem q359 : (Jvm.Cond.methodLink "CodeLayout$Shape" (3 : Nat) ({ cls := "java/lang/Object", name := "<init>", desc := "()V" } : Jvm.MethodName)) ∈ lw_all := lw_g (lw_at lw_m1 134 rfl) rfl
theorem q360 : (Jvm.Cond.fieldLink "CodeLayout$Shape" (53 : Nat) "CodeLayout$Shape" "trouble" "LCodeLayout$Trouble;") ∈ lw_all := lw_g (lw_at lw_m1 135 rfl) rfl
theorem q361 : (Jvm.Cond.fieldLink "CodeLayout$Shape" (57 : Nat) "CodeLayout$Shape" "s" "LCodeLayout$Source;") ∈ lw_all := lw_g (lw_at lw_m1 136 rfl) rfl
theorem q362 : (Jvm.Cond.fieldLink "CodeLayout$Memory" (43 : Nat) "CodeLayout$Shape" "segments" "I") ∈ lw_all := lw_g (lw_at lw_m1 137 rfl) rfl
theorem q363 : (Jvm.Cond.fieldLink "CodeLayout$Shape" (64 : Nat) "CodeLayout$Shape" "segments" "I") ∈ lw_all := lw_g (lw_at lw_m1 138 rfl) rfl
theorem q364 : (Jvm.Cond.fieldLink "CodeLayout$Shape" (78 : Nat) "CodeLayout$Shape" "sections" "I") ∈ lw_all := lw_g (lw_at lw_m1 139 rfl) rfl
theorem q365 : (Jvm.Cond.fieldLink "CodeLayout$Machine" (154 : Nat) "CodeLayout$Shape" "sections" "I") ∈ lw_all := lw_g (lw_at lw_m1 140 rfl) rfl
theorem q366 : (Jvm.Cond.fieldLink "CodeLayout$Program" (100 : Nat) "CodeLayout$Shape" "sections" "I") ∈ lw_all := lw_g (lw_at lw_m1 141 rfl) rfl
theorem q367 : (Jvm.Cond.fieldLink "CodeLayout$Writing" (263 : Nat) "CodeLayout$Shape" "sections" "I") ∈ lw_all := lw_g (lw_at lw_m1 142 rfl) rfl
theorem q368 : (Jvm.Cond.fieldLink "CodeLayout$Shape" (83 : Nat) "CodeLayout$Shape" "entry" "J") ∈ lw_all := lw_g (lw_at lw_m1 143 rfl) rfl
theorem q369 : (Jvm.Cond.fieldLink "CodeLayout$Machine" (118 : Nat) "CodeLayout$Shape" "entry" "J") ∈ lw_all := lw_g (lw_at lw_m1 144 rfl) rfl
theorem q370 : (Jvm.Cond.fieldLink "CodeLayout$Program" (248 : Nat) "CodeLayout$Shape" "entry" "J") ∈ lw_all := lw_g (lw_at lw_m1 145 rfl) rfl
theorem q371 : (Jvm.Cond.fieldLink "CodeLayout$Writing" (249 : Nat) "CodeLayout$Shape" "entry" "J") ∈ lw_all := lw_g (lw_at lw_m1 146 rfl) rfl
theorem q372 : (Jvm.Cond.fieldLink "CodeLayout$Shape" (143 : Nat) "CodeLayout$Shape" "begin" "I") ∈ lw_all := lw_g (lw_at lw_m1 147 rfl) rfl
theorem q373 : (Jvm.Cond.fieldLink "CodeLayout$Writing" (257 : Nat) "CodeLayout$Shape" "begin" "I") ∈ lw_all := lw_g (lw_at lw_m1 148 rfl) rfl
theorem q374 : (Jvm.Cond.fieldLink "CodeLayout$Shape" (138 : Nat) "CodeLayout$Shape" "names" "I") ∈ lw_all := lw_g (lw_at lw_m1 149 rfl) rfl
theorem q375 : (Jvm.Cond.fieldLink "CodeLayout$Shape" (9 : Nat) "CodeLayout$Shape" "flags" "[I") ∈ lw_all := lw_g (lw_at lw_m1 150 rfl) rfl
theorem q376 : (Jvm.Cond.fieldLink "CodeLayout$Memory" (93 : Nat) "CodeLayout$Shape" "flags" "[I") ∈ lw_all := lw_g (lw_at lw_m1 151 rfl) rfl
theorem q377 : (Jvm.Cond.fieldLink "CodeLayout$Shape" (15 : Nat) "CodeLayout$Shape" "address" "[J") ∈ lw_all := lw_g (lw_at lw_m1 152 rfl) rfl
theorem q378 : (Jvm.Cond.fieldLink "CodeLayout$Program" (77 : Nat) "CodeLayout$Shape" "address" "[J") ∈ lw_all := lw_g (lw_at lw_m1 153 rfl) rfl
theorem q379 : (Jvm.Cond.fieldLink "CodeLayout$Memory" (58 : Nat) "CodeLayout$Shape" "address" "[J") ∈ lw_all := lw_g (lw_at lw_m1 154 rfl) rfl
theorem q380 : (Jvm.Cond.fieldLink "CodeLayout$Shape" (19 : Nat) "CodeLayout$Shape" "offset" "[I") ∈ lw_all := lw_g (lw_at lw_m1 155 rfl) rfl
theorem q381 : (Jvm.Cond.fieldLink "CodeLayout$Memory" (73 : Nat) "CodeLayout$Shape" "offset" "[I") ∈ lw_all := lw_g (lw_at lw_m1 156 rfl) rfl
theorem q382 : (Jvm.Cond.fieldLink "CodeLayout$Shape" (22 : Nat) "CodeLayout$Shape" "size" "[I") ∈ lw_all := lw_g (lw_at lw_m1 157 rfl) rfl
theorem q383 : (Jvm.Cond.fieldLink "CodeLayout$Memory" (63 : Nat) "CodeLayout$Shape" "size" "[I") ∈ lw_all := lw_g (lw_at lw_m1 158 rfl) rfl
theorem q384 : (Jvm.Cond.fieldLink "CodeLayout$Program" (121 : Nat) "CodeLayout$Shape" "size" "[I") ∈ lw_all := lw_g (lw_at lw_m1 159 rfl) rfl
theorem q385 : (Jvm.Cond.fieldLink "CodeLayout$Shape" (25 : Nat) "CodeLayout$Shape" "type" "[I") ∈ lw_all := lw_g (lw_at lw_m1 160 rfl) rfl
theorem q386 : (Jvm.Cond.fieldLink "CodeLayout$Machine" (157 : Nat) "CodeLayout$Shape" "type" "[I") ∈ lw_all := lw_g (lw_at lw_m1 161 rfl) rfl
theorem q387 : (Jvm.Cond.fieldLink "CodeLayout$Program" (103 : Nat) "CodeLayout$Shape" "type" "[I") ∈ lw_all := lw_g (lw_at lw_m1 162 rfl) rfl
theorem q388 : (Jvm.Cond.fieldLink "CodeLayout$Writing" (300 : Nat) "CodeLayout$Shape" "type" "[I") ∈ lw_all := lw_g (lw_at lw_m1 163 rfl) rfl
theorem q389 : (Jvm.Cond.fieldLink "CodeLayout$Shape" (28 : Nat) "CodeLayout$Shape" "sectionFlags" "[I") ∈ lw_all := lw_g (lw_at lw_m1 164 rfl) rfl
theorem q390 : (Jvm.Cond.fieldLink "CodeLayout$Shape" (31 : Nat) "CodeLayout$Shape" "sectionAddress" "[J") ∈ lw_all := lw_g (lw_at lw_m1 165 rfl) rfl
theorem q391 : (Jvm.Cond.fieldLink "CodeLayout$Program" (219 : Nat) "CodeLayout$Shape" "sectionAddress" "[J") ∈ lw_all := lw_g (lw_at lw_m1 166 rfl) rfl
theorem q392 : (Jvm.Cond.fieldLink "CodeLayout$Writing" (331 : Nat) "CodeLayout$Shape" "sectionAddress" "[J") ∈ lw_all := lw_g (lw_at lw_m1 167 rfl) rfl
theorem q393 : (Jvm.Cond.fieldLink "CodeLayout$Shape" (34 : Nat) "CodeLayout$Shape" "sectionOffset" "[I") ∈ lw_all := lw_g (lw_at lw_m1 168 rfl) rfl
theorem q394 : (Jvm.Cond.fieldLink "CodeLayout$Program" (216 : Nat) "CodeLayout$Shape" "sectionOffset" "[I") ∈ lw_all := lw_g (lw_at lw_m1 169 rfl) rfl
theorem q395 : (Jvm.Cond.fieldLink "CodeLayout$Writing" (272 : Nat) "CodeLayout$Shape" "sectionOffset" "[I") ∈ lw_all := lw_g (lw_at lw_m1 170 rfl) rfl
theorem q396 : (Jvm.Cond.fieldLink "CodeLayout$Shape" (37 : Nat) "CodeLayout$Shape" "sectionSize" "[I") ∈ lw_all := lw_g (lw_at lw_m1 171 rfl) rfl
theorem q397 : (Jvm.Cond.fieldLink "CodeLayout$Shape" (40 : Nat) "CodeLayout$Shape" "link" "[I") ∈ lw_all := lw_g (lw_at lw_m1 172 rfl) rfl
theorem q398 : (Jvm.Cond.fieldLink "CodeLayout$Shape" (43 : Nat) "CodeLayout$Shape" "info" "[I") ∈ lw_all := lw_g (lw_at lw_m1 173 rfl) rfl
theorem q399 : (Jvm.Cond.fieldLink "CodeLayout$Machine" (160 : Nat) "CodeLayout$Shape" "info" "[I") ∈ lw_all := lw_g (lw_at lw_m1 174 rfl) rfl
theorem q400 : (Jvm.Cond.fieldLink "CodeLayout$Program" (203 : Nat) "CodeLayout$Shape" "info" "[I") ∈ lw_all := lw_g (lw_at lw_m1 175 rfl) rfl
theorem q401 : (Jvm.Cond.fieldLink "CodeLayout$Writing" (328 : Nat) "CodeLayout$Shape" "info" "[I") ∈ lw_all := lw_g (lw_at lw_m1 176 rfl) rfl
theorem q402 : (Jvm.Cond.fieldLink "CodeLayout$Shape" (167 : Nat) "CodeLayout$Shape" "text" "I") ∈ lw_all := lw_g (lw_at lw_m1 177 rfl) rfl
theorem q403 : (Jvm.Cond.fieldLink "CodeLayout$Writing" (266 : Nat) "CodeLayout$Shape" "text" "I") ∈ lw_all := lw_g (lw_at lw_m1 178 rfl) rfl
theorem q404 : (Jvm.Cond.fieldLink "CodeLayout$Shape" (170 : Nat) "CodeLayout$Shape" "symbols" "I") ∈ lw_all := lw_g (lw_at lw_m1 179 rfl) rfl
theorem q405 : (Jvm.Cond.fieldLink "CodeLayout$Shape" (46 : Nat) "CodeLayout$Shape" "places" "[J") ∈ lw_all := lw_g (lw_at lw_m1 180 rfl) rfl
theorem q406 : (Jvm.Cond.fieldLink "CodeLayout$Shape" (49 : Nat) "CodeLayout$Shape" "isTaken" "[Z") ∈ lw_all := lw_g (lw_at lw_m1 181 rfl) rfl
theorem q452 : (Jvm.Cond.arrayClass Jvm.ClassFile.FieldType.int) ∈ lw_all := lw_g (lw_at lw_m1 227 rfl) rfl
theorem q453 : (Jvm.Cond.arrayClass Jvm.ClassFile.FieldType.long) ∈ lw_all := lw_g (lw_at lw_m1 228 rfl) rfl
theorem q454 : (Jvm.Cond.arrayClass Jvm.ClassFile.FieldType.boolean) ∈ lw_all := lw_g (lw_at lw_m1 229 rfl) rfl
theorem q455 : (Jvm.Cond.classLink "CodeLayout$Program" (25 : Nat) "CodeLayout$Held") ∈ lw_all := lw_g (lw_at lw_m1 230 rfl) rfl
theorem q456 : (Jvm.Cond.instantiable "CodeLayout$Held" (2 : Nat)) ∈ lw_all := lw_g (lw_at lw_m1 231 rfl) rfl
theorem q457 : (Jvm.Cond.methodLinkNest "CodeLayout$Program" (27 : Nat) ({ cls := "CodeLayout$Held", name := "<init>", desc := "()V" } : Jvm.MethodName) "CodeLayout") ∈ lw_tbl := lw_at lw_m1 232 rfl
theorem q458 : (Jvm.Cond.instanceMethod ({ cls := "CodeLayout$Held", name := "<init>", desc := "()V" } : Jvm.MethodName)) ∈ lw_all := lw_g (lw_at lw_m1 233 rfl) rfl
theorem q459 : (Jvm.Cond.code ({ cls := "CodeLayout$Held", name := "<init>", desc := "()V" } : Jvm.MethodName) prog_4_method_1_code (1 : Nat) (Option.none : Option Jvm.ClassFile.FieldType)) ∈ lw_all := lw_g (lw_at lw_m1 234 rfl) rfl
theorem q460 : (Jvm.Cond.methodLinkNest "CodeLayout$Held" (3 : Nat) ({ cls := "CodeLayout$Source", name := "<init>", desc := "()V" } : Jvm.MethodName) "CodeLayout") ∈ lw_tbl := lw_at lw_m1 235 rfl
theorem q461 : (Jvm.Cond.instanceMethod ({ cls := "CodeLayout$Source", name := "<init>", desc := "()V" } : Jvm.MethodName)) ∈ lw_all := lw_g (lw_at lw_m1 236 rfl) rfl
theorem q462 : (Jvm.Cond.code ({ cls := "CodeLayout$Source", name := "<init>", desc := "()V" } : Jvm.MethodName) prog_11_method_1_code (1 : Nat) (Option.none : Option Jvm.ClassFile.FieldType)) ∈ lw_all := lw_g (lw_at lw_m1 237 rfl) rfl
theorem q463 : (Jvm.Cond.methodLink "CodeLayout$Source" (1 : Nat) ({ cls := "java/lang/Object", name := "<init>", desc := "()V" } : Jvm.MethodName)) ∈ lw_all := lw_g (lw_at lw_m1 238 rfl) rfl
theorem q464 : (Jvm.Cond.constant "CodeLayout$Held" (9 : Nat) (60000 : Int32)) ∈ lw_all := lw_g (lw_at lw_m1 239 rfl) rfl
theorem q465 : (Jvm.Cond.fieldLink "CodeLayout$Held" (10 : Nat) "CodeLayout$Held" "bytes" "[B") ∈ lw_all := lw_g (lw_at lw_m2 0 rfl) rfl
theorem q466 : (Jvm.Cond.fieldLink "CodeLayout" (103 : Nat) "CodeLayout$Held" "bytes" "[B") ∈ lw_all := lw_g (lw_at lw_m2 1 rfl) rfl
theorem q467 : (Jvm.Cond.fieldLink "CodeLayout$Writing" (241 : Nat) "CodeLayout$Held" "bytes" "[B") ∈ lw_all := lw_g (lw_at lw_m2 2 rfl) rfl
theorem q468 : (Jvm.Cond.fieldLink "CodeLayout$Held" (16 : Nat) "CodeLayout$Held" "size" "I") ∈ lw_all := lw_g (lw_at lw_m2 3 rfl) rfl
theorem q469 : (Jvm.Cond.fieldLink "CodeLayout" (114 : Nat) "CodeLayout$Held" "size" "I") ∈ lw_all := lw_g (lw_at lw_m2 4 rfl) rfl
theorem q470 : (Jvm.Cond.fieldLink "CodeLayout$Writing" (218 : Nat) "CodeLayout$Held" "size" "I") ∈ lw_all := lw_g (lw_at lw_m2 5 rfl) rfl
theorem q476 : (Jvm.Cond.classLink "CodeLayout$Program" (49 : Nat) "CodeLayout$Row") ∈ lw_all := lw_g (lw_at lw_m2 11 rfl) rfl
theorem q477 : (Jvm.Cond.instantiable "CodeLayout$Row" (2 : Nat)) ∈ lw_all := lw_g (lw_at lw_m2 12 rfl) rfl
theorem q478 : (Jvm.Cond.methodLinkNest "CodeLayout$Program" (51 : Nat) ({ cls := "CodeLayout$Row", name := "<init>", desc := "()V" } : Jvm.MethodName) "CodeLayout") ∈ lw_tbl := lw_at lw_m2 13 rfl
theorem q479 : (Jvm.Cond.instanceMethod ({ cls := "CodeLayout$Row", name := "<init>", desc := "()V" } : Jvm.MethodName)) ∈ lw_all := lw_g (lw_at lw_m2 14 rfl) rfl
theorem q480 : (Jvm.Cond.code ({ cls := "CodeLayout$Row", name := "<init>", desc := "()V" } : Jvm.MethodName) prog_9_method_1_code (1 : Nat) (Option.none : Option Jvm.ClassFile.FieldType)) ∈ lw_all := lw_g (lw_at lw_m2 15 rfl) rfl
theorem q481 : (Jvm.Cond.methodLink "CodeLayout$Row" (1 : Nat) ({ cls := "java/lang/Object", name := "<init>", desc := "()V" } : Jvm.MethodName)) ∈ lw_all := lw_g (lw_at lw_m2 16 rfl) rfl
theorem q482 : (Jvm.Cond.fieldLink "CodeLayout$Row" (7 : Nat) "CodeLayout$Row" "v" "[I") ∈ lw_all := lw_g (lw_at lw_m2 17 rfl) rfl
theorem q483 : (Jvm.Cond.fieldLink "CodeLayout$Ordering" (123 : Nat) "CodeLayout$Row" "v" "[I") ∈ lw_all := lw_g (lw_at lw_m2 18 rfl) rfl
theorem q484 : (Jvm.Cond.fieldLink "CodeLayout$Counts" (31 : Nat) "CodeLayout$Row" "v" "[I") ∈ lw_all := lw_g (lw_at lw_m2 19 rfl) rfl
theorem q485 : (Jvm.Cond.fieldLink "CodeLayout$Program" (166 : Nat) "CodeLayout$Row" "v" "[I") ∈ lw_all := lw_g (lw_at lw_m2 20 rfl) rfl
theorem q486 : (Jvm.Cond.fieldLink "CodeLayout$Writing" (133 : Nat) "CodeLayout$Row" "v" "[I") ∈ lw_all := lw_g (lw_at lw_m2 21 rfl) rfl
theorem q487 : (Jvm.Cond.fieldLink "CodeLayout" (214 : Nat) "CodeLayout$Row" "v" "[I") ∈ lw_all := lw_g (lw_at lw_m2 22 rfl) rfl
theorem q488 : (Jvm.Cond.fieldLink "CodeLayout$Row" (13 : Nat) "CodeLayout$Row" "n" "I") ∈ lw_all := lw_g (lw_at lw_m2 23 rfl) rfl
theorem q489 : (Jvm.Cond.fieldLink "CodeLayout$Counts" (27 : Nat) "CodeLayout$Row" "n" "I") ∈ lw_all := lw_g (lw_at lw_m2 24 rfl) rfl
theorem q490 : (Jvm.Cond.fieldLink "CodeLayout$Program" (90 : Nat) "CodeLayout$Row" "n" "I") ∈ lw_all := lw_g (lw_at lw_m2 25 rfl) rfl
theorem q491 : (Jvm.Cond.fieldLink "CodeLayout$Ordering" (146 : Nat) "CodeLayout$Row" "n" "I") ∈ lw_all := lw_g (lw_at lw_m2 26 rfl) rfl
theorem q497 : (Jvm.Cond.fieldLink "CodeLayout$Program" (10 : Nat) "CodeLayout$Program" "trouble" "LCodeLayout$Trouble;") ∈ lw_all := lw_g (lw_at lw_m2 32 rfl) rfl
theorem q498 : (Jvm.Cond.fieldLink "CodeLayout$Program" (21 : Nat) "CodeLayout$Program" "shape" "LCodeLayout$Shape;") ∈ lw_all := lw_g (lw_at lw_m2 33 rfl) rfl
theorem q499 : (Jvm.Cond.fieldLink "CodeLayout$Memory" (37 : Nat) "CodeLayout$Program" "shape" "LCodeLayout$Shape;") ∈ lw_all := lw_g (lw_at lw_m2 34 rfl) rfl
theorem q500 : (Jvm.Cond.fieldLink "CodeLayout$Machine" (114 : Nat) "CodeLayout$Program" "shape" "LCodeLayout$Shape;") ∈ lw_all := lw_g (lw_at lw_m2 35 rfl) rfl
theorem q501 : (Jvm.Cond.fieldLink "CodeLayout" (263 : Nat) "CodeLayout$Program" "shape" "LCodeLayout$Shape;") ∈ lw_all := lw_g (lw_at lw_m2 36 rfl) rfl
theorem q502 : (Jvm.Cond.fieldLink "CodeLayout$Writing" (181 : Nat) "CodeLayout$Program" "shape" "LCodeLayout$Shape;") ∈ lw_all := lw_g (lw_at lw_m2 37 rfl) rfl
theorem q503 : (Jvm.Cond.fieldLink "CodeLayout$Program" (28 : Nat) "CodeLayout$Program" "file" "LCodeLayout$Held;") ∈ lw_all := lw_g (lw_at lw_m2 38 rfl) rfl
theorem q504 : (Jvm.Cond.fieldLink "CodeLayout$Machine" (75 : Nat) "CodeLayout$Program" "file" "LCodeLayout$Held;") ∈ lw_all := lw_g (lw_at lw_m2 39 rfl) rfl
theorem q505 : (Jvm.Cond.fieldLink "CodeLayout" (99 : Nat) "CodeLayout$Program" "file" "LCodeLayout$Held;") ∈ lw_all := lw_g (lw_at lw_m2 40 rfl) rfl
theorem q506 : (Jvm.Cond.fieldLink "CodeLayout$Writing" (215 : Nat) "CodeLayout$Program" "file" "LCodeLayout$Held;") ∈ lw_all := lw_g (lw_at lw_m2 41 rfl) rfl
theorem q507 : (Jvm.Cond.fieldLink "CodeLayout$Machine" (200 : Nat) "CodeLayout$Program" "words" "I") ∈ lw_all := lw_g (lw_at lw_m2 42 rfl) rfl
theorem q508 : (Jvm.Cond.fieldLink "CodeLayout$Program" (124 : Nat) "CodeLayout$Program" "words" "I") ∈ lw_all := lw_g (lw_at lw_m2 43 rfl) rfl
theorem q509 : (Jvm.Cond.fieldLink "CodeLayout" (191 : Nat) "CodeLayout$Program" "words" "I") ∈ lw_all := lw_g (lw_at lw_m2 44 rfl) rfl
theorem q510 : (Jvm.Cond.fieldLink "CodeLayout$Writing" (230 : Nat) "CodeLayout$Program" "words" "I") ∈ lw_all := lw_g (lw_at lw_m2 45 rfl) rfl
theorem q511 : (Jvm.Cond.fieldLink "CodeLayout$Program" (32 : Nat) "CodeLayout$Program" "word" "[I") ∈ lw_all := lw_g (lw_at lw_m2 46 rfl) rfl
theorem q512 : (Jvm.Cond.fieldLink "CodeLayout$Writing" (193 : Nat) "CodeLayout$Program" "word" "[I") ∈ lw_all := lw_g (lw_at lw_m2 47 rfl) rfl
theorem q513 : (Jvm.Cond.fieldLink "CodeLayout$Machine" (266 : Nat) "CodeLayout$Program" "word" "[I") ∈ lw_all := lw_g (lw_at lw_m2 48 rfl) rfl
theorem q514 : (Jvm.Cond.fieldLink "CodeLayout$Program" (36 : Nat) "CodeLayout$Program" "kind" "[I") ∈ lw_all := lw_g (lw_at lw_m2 49 rfl) rfl
theorem q515 : (Jvm.Cond.fieldLink "CodeLayout$Writing" (90 : Nat) "CodeLayout$Program" "kind" "[I") ∈ lw_all := lw_g (lw_at lw_m2 50 rfl) rfl
theorem q516 : (Jvm.Cond.fieldLink "CodeLayout$Machine" (274 : Nat) "CodeLayout$Program" "kind" "[I") ∈ lw_all := lw_g (lw_at lw_m2 51 rfl) rfl
theorem q517 : (Jvm.Cond.fieldLink "CodeLayout$Program" (39 : Nat) "CodeLayout$Program" "blockAt" "[I") ∈ lw_all := lw_g (lw_at lw_m2 52 rfl) rfl
theorem q518 : (Jvm.Cond.fieldLink "CodeLayout$Machine" (187 : Nat) "CodeLayout$Program" "blockAt" "[I") ∈ lw_all := lw_g (lw_at lw_m2 53 rfl) rfl
theorem q519 : (Jvm.Cond.fieldLink "CodeLayout$Writing" (123 : Nat) "CodeLayout$Program" "blockAt" "[I") ∈ lw_all := lw_g (lw_at lw_m2 54 rfl) rfl
theorem q520 : (Jvm.Cond.fieldLink "CodeLayout" (276 : Nat) "CodeLayout$Program" "blockAt" "[I") ∈ lw_all := lw_g (lw_at lw_m2 55 rfl) rfl
theorem q521 : (Jvm.Cond.fieldLink "CodeLayout$Program" (42 : Nat) "CodeLayout$Program" "fixOf" "[I") ∈ lw_all := lw_g (lw_at lw_m2 56 rfl) rfl
theorem q522 : (Jvm.Cond.fieldLink "CodeLayout$Writing" (178 : Nat) "CodeLayout$Program" "fixOf" "[I") ∈ lw_all := lw_g (lw_at lw_m2 57 rfl) rfl
theorem q523 : (Jvm.Cond.fieldLink "CodeLayout$Machine" (370 : Nat) "CodeLayout$Program" "fixOf" "[I") ∈ lw_all := lw_g (lw_at lw_m2 58 rfl) rfl
theorem q524 : (Jvm.Cond.fieldLink "CodeLayout$Program" (45 : Nat) "CodeLayout$Program" "isLeader" "[Z") ∈ lw_all := lw_g (lw_at lw_m2 59 rfl) rfl
theorem q525 : (Jvm.Cond.fieldLink "CodeLayout$Machine" (221 : Nat) "CodeLayout$Program" "isLeader" "[Z") ∈ lw_all := lw_g (lw_at lw_m2 60 rfl) rfl
theorem q526 : (Jvm.Cond.fieldLink "CodeLayout" (282 : Nat) "CodeLayout$Program" "isLeader" "[Z") ∈ lw_all := lw_g (lw_at lw_m2 61 rfl) rfl
theorem q527 : (Jvm.Cond.fieldLink "CodeLayout$Program" (52 : Nat) "CodeLayout$Program" "functions" "LCodeLayout$Row;") ∈ lw_all := lw_g (lw_at lw_m2 62 rfl) rfl
theorem q528 : (Jvm.Cond.fieldLink "CodeLayout" (210 : Nat) "CodeLayout$Program" "functions" "LCodeLayout$Row;") ∈ lw_all := lw_g (lw_at lw_m2 63 rfl) rfl
theorem q529 : (Jvm.Cond.fieldLink "CodeLayout$Program" (56 : Nat) "CodeLayout$Program" "functionSymbol" "LCodeLayout$Row;") ∈ lw_all := lw_g (lw_at lw_m2 64 rfl) rfl
theorem q530 : (Jvm.Cond.fieldLink "CodeLayout$Writing" (294 : Nat) "CodeLayout$Program" "functionSymbol" "LCodeLayout$Row;") ∈ lw_all := lw_g (lw_at lw_m2 65 rfl) rfl
theorem q531 : (Jvm.Cond.fieldLink "CodeLayout$Program" (59 : Nat) "CodeLayout$Program" "functionBlock" "LCodeLayout$Row;") ∈ lw_all := lw_g (lw_at lw_m2 66 rfl) rfl
theorem q532 : (Jvm.Cond.fieldLink "CodeLayout$Program" (62 : Nat) "CodeLayout$Program" "functionAt" "[I") ∈ lw_all := lw_g (lw_at lw_m2 67 rfl) rfl
theorem q533 : (Jvm.Cond.fieldLink "CodeLayout$Program" (65 : Nat) "CodeLayout$Program" "first" "LCodeLayout$Row;") ∈ lw_all := lw_g (lw_at lw_m2 68 rfl) rfl
theorem q534 : (Jvm.Cond.fieldLink "CodeLayout$Writing" (129 : Nat) "CodeLayout$Program" "first" "LCodeLayout$Row;") ∈ lw_all := lw_g (lw_at lw_m2 69 rfl) rfl
theorem q535 : (Jvm.Cond.fieldLink "CodeLayout" (238 : Nat) "CodeLayout$Program" "first" "LCodeLayout$Row;") ∈ lw_all := lw_g (lw_at lw_m2 70 rfl) rfl
theorem q536 : (Jvm.Cond.fieldLink "CodeLayout$Program" (68 : Nat) "CodeLayout$Program" "end" "[I") ∈ lw_all := lw_g (lw_at lw_m2 71 rfl) rfl
theorem q537 : (Jvm.Cond.fieldLink "CodeLayout$Writing" (68 : Nat) "CodeLayout$Program" "end" "[I") ∈ lw_all := lw_g (lw_at lw_m2 72 rfl) rfl
theorem q538 : (Jvm.Cond.fieldLink "CodeLayout$Machine" (236 : Nat) "CodeLayout$Program" "end" "[I") ∈ lw_all := lw_g (lw_at lw_m2 73 rfl) rfl
theorem q539 : (Jvm.Cond.fieldLink "CodeLayout" (246 : Nat) "CodeLayout$Program" "end" "[I") ∈ lw_all := lw_g (lw_at lw_m2 74 rfl) rfl
theorem q540 : (Jvm.Cond.fieldLink "CodeLayout$Program" (71 : Nat) "CodeLayout$Program" "taken" "[I") ∈ lw_all := lw_g (lw_at lw_m2 75 rfl) rfl
theorem q541 : (Jvm.Cond.fieldLink "CodeLayout$Writing" (71 : Nat) "CodeLayout$Program" "taken" "[I") ∈ lw_all := lw_g (lw_at lw_m2 76 rfl) rfl
theorem q542 : (Jvm.Cond.fieldLink "CodeLayout$Program" (74 : Nat) "CodeLayout$Program" "isNamed" "[Z") ∈ lw_all := lw_g (lw_at lw_m2 77 rfl) rfl
theorem q543 : (Jvm.Cond.fieldLink "CodeLayout" (255 : Nat) "CodeLayout$Program" "isNamed" "[Z") ∈ lw_all := lw_g (lw_at lw_m2 78 rfl) rfl
theorem q544 : (Jvm.Cond.fieldLink "CodeLayout$Ordering" (95 : Nat) "CodeLayout$Program" "blocks" "I") ∈ lw_all := lw_g (lw_at lw_m2 79 rfl) rfl
theorem q545 : (Jvm.Cond.fieldLink "CodeLayout$Writing" (37 : Nat) "CodeLayout$Program" "blocks" "I") ∈ lw_all := lw_g (lw_at lw_m2 80 rfl) rfl
theorem q546 : (Jvm.Cond.fieldLink "CodeLayout$Machine" (225 : Nat) "CodeLayout$Program" "blocks" "I") ∈ lw_all := lw_g (lw_at lw_m2 81 rfl) rfl
theorem q547 : (Jvm.Cond.fieldLink "CodeLayout" (188 : Nat) "CodeLayout$Program" "blocks" "I") ∈ lw_all := lw_g (lw_at lw_m2 82 rfl) rfl
theorem q548 : (Jvm.Cond.fieldLink "CodeLayout$Program" (261 : Nat) "CodeLayout$Program" "blocks" "I") ∈ lw_all := lw_g (lw_at lw_m2 83 rfl) rfl
theorem q586 : (Jvm.Cond.classLink "CodeLayout" (36 : Nat) "CodeLayout$Counts") ∈ lw_all := lw_g (lw_at lw_m2 121 rfl) rfl
theorem q587 : (Jvm.Cond.instantiable "CodeLayout$Counts" (4 : Nat)) ∈ lw_all := lw_g (lw_at lw_m2 122 rfl) rfl
theorem q588 : (Jvm.Cond.methodLinkNest "CodeLayout" (38 : Nat) ({ cls := "CodeLayout$Counts", name := "<init>", desc := "()V" } : Jvm.MethodName) "CodeLayout") ∈ lw_tbl := lw_at lw_m2 123 rfl
theorem q589 : (Jvm.Cond.instanceMethod ({ cls := "CodeLayout$Counts", name := "<init>", desc := "()V" } : Jvm.MethodName)) ∈ lw_all := lw_g (lw_at lw_m2 124 rfl) rfl
theorem q590 : (Jvm.Cond.code ({ cls := "CodeLayout$Counts", name := "<init>", desc := "()V" } : Jvm.MethodName) prog_2_method_1_code (1 : Nat) (Option.none : Option Jvm.ClassFile.FieldType)) ∈ lw_all := lw_g (lw_at lw_m2 125 rfl) rfl
theorem q591 : (Jvm.Cond.methodLink "CodeLayout$Counts" (1 : Nat) ({ cls := "java/lang/Object", name := "<init>", desc := "()V" } : Jvm.MethodName)) ∈ lw_all := lw_g (lw_at lw_m2 126 rfl) rfl
theorem q592 : (Jvm.Cond.classLink "CodeLayout$Counts" (7 : Nat) "CodeLayout$Row") ∈ lw_all := lw_g (lw_at lw_m2 127 rfl) rfl
theorem q593 : (Jvm.Cond.methodLinkNest "CodeLayout$Counts" (9 : Nat) ({ cls := "CodeLayout$Row", name := "<init>", desc := "()V" } : Jvm.MethodName) "CodeLayout") ∈ lw_tbl := lw_at lw_m2 128 rfl
theorem q594 : (Jvm.Cond.fieldLink "CodeLayout$Counts" (10 : Nat) "CodeLayout$Counts" "from" "LCodeLayout$Row;") ∈ lw_all := lw_g (lw_at lw_m2 129 rfl) rfl
theorem q595 : (Jvm.Cond.fieldLink "CodeLayout$Ordering" (133 : Nat) "CodeLayout$Counts" "from" "LCodeLayout$Row;") ∈ lw_all := lw_g (lw_at lw_m2 130 rfl) rfl
theorem q596 : (Jvm.Cond.fieldLink "CodeLayout$Counts" (16 : Nat) "CodeLayout$Counts" "to" "LCodeLayout$Row;") ∈ lw_all := lw_g (lw_at lw_m2 131 rfl) rfl
theorem q597 : (Jvm.Cond.fieldLink "CodeLayout$Ordering" (120 : Nat) "CodeLayout$Counts" "to" "LCodeLayout$Row;") ∈ lw_all := lw_g (lw_at lw_m2 132 rfl) rfl
theorem q598 : (Jvm.Cond.fieldLink "CodeLayout$Counts" (19 : Nat) "CodeLayout$Counts" "count" "[J") ∈ lw_all := lw_g (lw_at lw_m2 133 rfl) rfl
theorem q599 : (Jvm.Cond.fieldLink "CodeLayout$Ordering" (126 : Nat) "CodeLayout$Counts" "count" "[J") ∈ lw_all := lw_g (lw_at lw_m2 134 rfl) rfl
theorem q600 : (Jvm.Cond.fieldLink "CodeLayout$Counts" (23 : Nat) "CodeLayout$Counts" "place" "[I") ∈ lw_all := lw_g (lw_at lw_m2 135 rfl) rfl
theorem q610 : (Jvm.Cond.classLink "CodeLayout" (49 : Nat) "CodeLayout$Machine") ∈ lw_all := lw_g (lw_at lw_m2 145 rfl) rfl
theorem q611 : (Jvm.Cond.arrayOver (Jvm.ClassFile.FieldType.object "CodeLayout$Machine")) ∈ lw_tbl := lw_at lw_m2 146 rfl
theorem q612 : (Jvm.Cond.classLink "CodeLayout" (55 : Nat) "java/util/ArrayList") ∈ lw_all := lw_g (lw_at lw_m2 147 rfl) rfl
theorem q613 : (Jvm.Cond.instantiable "java/util/ArrayList" (3 : Nat)) ∈ lw_all := lw_g (lw_at lw_m2 148 rfl) rfl
theorem q614 : (Jvm.Cond.methodLink "CodeLayout" (57 : Nat) ({ cls := "java/util/ArrayList", name := "<init>", desc := "()V" } : Jvm.MethodName)) ∈ lw_all := lw_g (lw_at lw_m2 149 rfl) rfl
theorem q615 : (Jvm.Cond.instanceMethod ({ cls := "java/util/ArrayList", name := "<init>", desc := "()V" } : Jvm.MethodName)) ∈ lw_all := lw_g (lw_at lw_m2 150 rfl) rfl
theorem q616 : (Jvm.Cond.code ({ cls := "java/util/ArrayList", name := "<init>", desc := "()V" } : Jvm.MethodName) prog_32_method_2_code (1 : Nat) (Option.none : Option Jvm.ClassFile.FieldType)) ∈ lw_all := lw_g (lw_at lw_m2 151 rfl) rfl
theorem q617 : (Jvm.Cond.methodLink "java/util/ArrayList" (1 : Nat) ({ cls := "java/util/AbstractList", name := "<init>", desc := "()V" } : Jvm.MethodName)) ∈ lw_all := lw_g (lw_at lw_m2 152 rfl) rfl
theorem q618 : (Jvm.Cond.instanceMethod ({ cls := "java/util/AbstractList", name := "<init>", desc := "()V" } : Jvm.MethodName)) ∈ lw_all := lw_g (lw_at lw_m2 153 rfl) rfl
theorem q619 : (Jvm.Cond.code ({ cls := "java/util/AbstractList", name := "<init>", desc := "()V" } : Jvm.MethodName) prog_31_method_1_code (1 : Nat) (Option.none : Option Jvm.ClassFile.FieldType)) ∈ lw_all := lw_g (lw_at lw_m2 154 rfl) rfl
theorem q620 : (Jvm.Cond.methodLink "java/util/AbstractList" (1 : Nat) ({ cls := "java/util/AbstractCollection", name := "<init>", desc := "()V" } : Jvm.MethodName)) ∈ lw_all := lw_g (lw_at lw_m2 155 rfl) rfl
theorem q621 : (Jvm.Cond.instanceMethod ({ cls := "java/util/AbstractCollection", name := "<init>", desc := "()V" } : Jvm.MethodName)) ∈ lw_all := lw_g (lw_at lw_m2 156 rfl) rfl
theorem q622 : (Jvm.Cond.code ({ cls := "java/util/AbstractCollection", name := "<init>", desc := "()V" } : Jvm.MethodName) prog_30_method_1_code (1 : Nat) (Option.none : Option Jvm.ClassFile.FieldType)) ∈ lw_all := lw_g (lw_at lw_m2 157 rfl) rfl
theorem q623 : (Jvm.Cond.methodLink "java/util/AbstractCollection" (1 : Nat) ({ cls := "java/lang/Object", name := "<init>", desc := "()V" } : Jvm.MethodName)) ∈ lw_all := lw_g (lw_at lw_m2 158 rfl) rfl
theorem q624 : (Jvm.Cond.fieldLink "java/util/ArrayList" (39 : Nat) "java/util/ArrayList" "DEFAULTCAPACITY_EMPTY_ELEMENTDATA" "[Ljava/lang/Object;") ∈ lw_all := lw_g (lw_at lw_m2 159 rfl) rfl
theorem q625 : (Jvm.Cond.laysStatic "java/util/ArrayList" "DEFAULTCAPACITY_EMPTY_ELEMENTDATA" "[Ljava/lang/Object;") ∈ lw_tbl := lw_at lw_m2 160 rfl
theorem q626 : (Jvm.Cond.fieldLink "java/util/ArrayList" (9 : Nat) "java/util/ArrayList" "elementData" "[Ljava/lang/Object;") ∈ lw_all := lw_g (lw_at lw_m2 161 rfl) rfl
theorem q627 : (Jvm.Cond.fieldLink "java/util/ArrayList" (48 : Nat) "java/util/ArrayList" "size" "I") ∈ lw_all := lw_g (lw_at lw_m2 162 rfl) rfl
theorem q628 : (Jvm.Cond.fieldLink "java/util/AbstractList" (7 : Nat) "java/util/AbstractList" "modCount" "I") ∈ lw_all := lw_g (lw_at lw_m2 163 rfl) rfl
theorem q629 : (Jvm.Cond.fieldLink "java/util/ArrayList" (63 : Nat) "java/util/ArrayList" "modCount" "I") ∈ lw_all := lw_g (lw_at lw_m2 164 rfl) rfl
theorem q630 : (Jvm.Cond.sameField "java/util/ArrayList" "java/util/AbstractList" "modCount" "I") ∈ lw_all := lw_g (lw_at lw_m2 165 rfl) rfl
theorem q638 : (Jvm.Cond.classLink "CodeLayout" (68 : Nat) "CodeLayout$Trouble") ∈ lw_all := lw_g (lw_at lw_m2 173 rfl) rfl
theorem q639 : (Jvm.Cond.methodLinkNest "CodeLayout" (70 : Nat) ({ cls := "CodeLayout$Trouble", name := "<init>", desc := "()V" } : Jvm.MethodName) "CodeLayout") ∈ lw_tbl := lw_at lw_m2 174 rfl
theorem q640 : (Jvm.Cond.classLink "CodeLayout" (75 : Nat) "CodeLayout$Shape") ∈ lw_all := lw_g (lw_at lw_m2 175 rfl) rfl
theorem q641 : (Jvm.Cond.methodLink "CodeLayout" (77 : Nat) ({ cls := "CodeLayout$Shape", name := "<init>", desc := "(LCodeLayout$Trouble;)V" } : Jvm.MethodName)) ∈ lw_all := lw_g (lw_at lw_m2 176 rfl) rfl
theorem q642 : (Jvm.Cond.fieldLink "CodeLayout" (18 : Nat) "CodeLayout" "tray" "[B") ∈ lw_all := lw_g (lw_at lw_m2 177 rfl) rfl
theorem q643 : (Jvm.Cond.fieldLink "CodeLayout" (88 : Nat) "CodeLayout" "trayed" "I") ∈ lw_all := lw_g (lw_at lw_m2 178 rfl) rfl
theorem q644 : (Jvm.Cond.fieldLink "CodeLayout" (91 : Nat) "CodeLayout" "fed" "I") ∈ lw_all := lw_g (lw_at lw_m2 179 rfl) rfl
theorem q645 : (Jvm.Cond.fieldLink "CodeLayout" (22 : Nat) "CodeLayout" "place" "I") ∈ lw_all := lw_g (lw_at lw_m2 180 rfl) rfl
theorem q646 : (Jvm.Cond.fieldLink "CodeLayout" (29 : Nat) "CodeLayout" "program" "LCodeLayout$Program;") ∈ lw_all := lw_g (lw_at lw_m2 181 rfl) rfl
theorem q647 : (Jvm.Cond.fieldLink "CodeLayout" (33 : Nat) "CodeLayout" "spare" "LCodeLayout$Program;") ∈ lw_all := lw_g (lw_at lw_m2 182 rfl) rfl
theorem q648 : (Jvm.Cond.fieldLink "CodeLayout" (128 : Nat) "CodeLayout" "hasFile" "Z") ∈ lw_all := lw_g (lw_at lw_m2 183 rfl) rfl
theorem q649 : (Jvm.Cond.fieldLink "CodeLayout" (132 : Nat) "CodeLayout" "isLaid" "Z") ∈ lw_all := lw_g (lw_at lw_m2 184 rfl) rfl
theorem q650 : (Jvm.Cond.fieldLink "CodeLayout" (39 : Nat) "CodeLayout" "ways" "LCodeLayout$Counts;") ∈ lw_all := lw_g (lw_at lw_m2 185 rfl) rfl
theorem q651 : (Jvm.Cond.fieldLink "CodeLayout" (43 : Nat) "CodeLayout" "calls" "LCodeLayout$Counts;") ∈ lw_all := lw_g (lw_at lw_m2 186 rfl) rfl
theorem q652 : (Jvm.Cond.fieldLink "CodeLayout" (46 : Nat) "CodeLayout" "callsOfBlocks" "LCodeLayout$Counts;") ∈ lw_all := lw_g (lw_at lw_m2 187 rfl) rfl
theorem q653 : (Jvm.Cond.fieldLink "CodeLayout" (171 : Nat) "CodeLayout" "rows" "LCodeLayout$Ordering;") ∈ lw_all := lw_g (lw_at lw_m2 188 rfl) rfl
theorem q654 : (Jvm.Cond.fieldLink "CodeLayout" (175 : Nat) "CodeLayout" "laid" "LCodeLayout$Writing;") ∈ lw_all := lw_g (lw_at lw_m2 189 rfl) rfl
theorem q655 : (Jvm.Cond.fieldLink "CodeLayout" (179 : Nat) "CodeLayout" "old" "LCodeLayout$Writing;") ∈ lw_all := lw_g (lw_at lw_m2 190 rfl) rfl
theorem q656 : (Jvm.Cond.fieldLink "CodeLayout" (51 : Nat) "CodeLayout" "machines" "[LCodeLayout$Machine;") ∈ lw_all := lw_g (lw_at lw_m2 191 rfl) rfl
theorem q657 : (Jvm.Cond.fieldLink "CodeLayout" (138 : Nat) "CodeLayout" "isCounted" "Z") ∈ lw_all := lw_g (lw_at lw_m2 192 rfl) rfl
theorem q658 : (Jvm.Cond.fieldLink "CodeLayout" (58 : Nat) "CodeLayout" "kept" "Ljava/util/ArrayList;") ∈ lw_all := lw_g (lw_at lw_m2 193 rfl) rfl
theorem q659 : (Jvm.Cond.fieldLink "CodeLayout" (62 : Nat) "CodeLayout" "keptWritings" "Ljava/util/ArrayList;") ∈ lw_all := lw_g (lw_at lw_m2 194 rfl) rfl
theorem q660 : (Jvm.Cond.fieldLink "CodeLayout" (65 : Nat) "CodeLayout" "keptRows" "Ljava/util/ArrayList;") ∈ lw_all := lw_g (lw_at lw_m2 195 rfl) rfl
theorem q661 : (Jvm.Cond.fieldLink "CodeLayout" (147 : Nat) "CodeLayout" "first" "LCodeLayout$Program;") ∈ lw_all := lw_g (lw_at lw_m2 196 rfl) rfl
theorem q662 : (Jvm.Cond.fieldLink "CodeLayout" (71 : Nat) "CodeLayout" "checked" "LCodeLayout$Trouble;") ∈ lw_all := lw_g (lw_at lw_m2 197 rfl) rfl
theorem q663 : (Jvm.Cond.fieldLink "CodeLayout" (80 : Nat) "CodeLayout" "checking" "LCodeLayout$Shape;") ∈ lw_all := lw_g (lw_at lw_m2 198 rfl) rfl
theorem q664 : (Jvm.Cond.fieldLink "CodeLayout" (84 : Nat) "CodeLayout" "numbers" "[I") ∈ lw_all := lw_g (lw_at lw_m2 199 rfl) rfl
theorem q665 : (Jvm.Cond.fieldLink "CodeLayout" (314 : Nat) "CodeLayout" "strayed" "I") ∈ lw_all := lw_g (lw_at lw_m2 200 rfl) rfl
theorem q715 : (Jvm.Cond.methodLink "CodeLayoutLaw" (13 : Nat) ({ cls := "CodeLayout", name := "feed", desc := "(IIIII)I" } : Jvm.MethodName)) ∈ lw_all := lw_g (lw_at lw_m3 10 rfl) rfl
theorem q716 : (Jvm.Cond.instanceMethod ({ cls := "CodeLayout", name := "feed", desc := "(IIIII)I" } : Jvm.MethodName)) ∈ lw_all := lw_g (lw_at lw_m3 11 rfl) rfl
theorem q717 : (Jvm.Cond.selects "CodeLayout" ({ cls := "CodeLayout", name := "feed", desc := "(IIIII)I" } : Jvm.MethodName) ({ cls := "CodeLayout", name := "feed", desc := "(IIIII)I" } : Jvm.MethodName)) ∈ lw_all := lw_g (lw_at lw_m3 12 rfl) rfl
theorem q718 : (Jvm.Cond.code ({ cls := "CodeLayout", name := "feed", desc := "(IIIII)I" } : Jvm.MethodName) prog_1_method_5_code (6 : Nat) (Option.some Jvm.ClassFile.FieldType.int)) ∈ lw_all := lw_g (lw_at lw_m3 13 rfl) rfl
theorem q719 : (Jvm.Cond.constant "CodeLayout" (94 : Nat) (131072 : Int32)) ∈ lw_all := lw_g (lw_at lw_m3 14 rfl) rfl
theorem q720 : (Jvm.Cond.methodLink "CodeLayout" (95 : Nat) ({ cls := "CodeLayout", name := "word", desc := "(I)V" } : Jvm.MethodName)) ∈ lw_all := lw_g (lw_at lw_m3 15 rfl) rfl
theorem q722 : (Jvm.Cond.instanceMethod ({ cls := "CodeLayout", name := "word", desc := "(I)V" } : Jvm.MethodName)) ∈ lw_all := lw_g (lw_at lw_m3 17 rfl) rfl
theorem q723 : (Jvm.Cond.code ({ cls := "CodeLayout", name := "word", desc := "(I)V" } : Jvm.MethodName) prog_1_method_4_code (3 : Nat) (Option.none : Option Jvm.ClassFile.FieldType)) ∈ lw_all := lw_g (lw_at lw_m3 18 rfl) rfl
theorem q724 : (Jvm.Cond.methodLink "CodeLayoutLaw" (18 : Nat) ({ cls := "CodeLayout", name := "end", desc := "(I)Z" } : Jvm.MethodName)) ∈ lw_all := lw_g (lw_at lw_m3 19 rfl) rfl
theorem q725 : (Jvm.Cond.instanceMethod ({ cls := "CodeLayout", name := "end", desc := "(I)Z" } : Jvm.MethodName)) ∈ lw_all := lw_g (lw_at lw_m3 20 rfl) rfl
theorem q726 : (Jvm.Cond.selects "CodeLayout" ({ cls := "CodeLayout", name := "end", desc := "(I)Z" } : Jvm.MethodName) ({ cls := "CodeLayout", name := "end", desc := "(I)Z" } : Jvm.MethodName)) ∈ lw_all := lw_g (lw_at lw_m3 21 rfl) rfl
theorem q727 : (Jvm.Cond.code ({ cls := "CodeLayout", name := "end", desc := "(I)Z" } : Jvm.MethodName) prog_1_method_6_code (2 : Nat) (Option.some Jvm.ClassFile.FieldType.boolean)) ∈ lw_all := lw_g (lw_at lw_m3 22 rfl) rfl
theorem q728 : (Jvm.Cond.methodLink "CodeLayoutLaw" (23 : Nat) ({ cls := "CodeLayout", name := "read", desc := "()I" } : Jvm.MethodName)) ∈ lw_all := lw_g (lw_at lw_m3 23 rfl) rfl
theorem q729 : (Jvm.Cond.instanceMethod ({ cls := "CodeLayout", name := "read", desc := "()I" } : Jvm.MethodName)) ∈ lw_all := lw_g (lw_at lw_m3 24 rfl) rfl
theorem q730 : (Jvm.Cond.selects "CodeLayout" ({ cls := "CodeLayout", name := "read", desc := "()I" } : Jvm.MethodName) ({ cls := "CodeLayout", name := "read", desc := "()I" } : Jvm.MethodName)) ∈ lw_all := lw_g (lw_at lw_m3 25 rfl) rfl
theorem q731 : (Jvm.Cond.codeWith ({ cls := "CodeLayout", name := "read", desc := "()I" } : Jvm.MethodName) prog_1_method_7_code (3 : Nat) (Option.some Jvm.ClassFile.FieldType.int) [((46 : Nat), (50 : Nat), (53 : Nat), (120 : Nat))]) ∈ lw_all := lw_g (lw_at lw_m3 26 rfl) rfl
theorem q732 : (Jvm.Cond.classLink "CodeLayout" (120 : Nat) "java/lang/IllegalStateException") ∈ lw_all := lw_g (lw_at lw_m3 27 rfl) rfl
theorem q733 : (Jvm.Cond.methodLink "CodeLayout" (108 : Nat) ({ cls := "java/lang/System", name := "arraycopy", desc := "(Ljava/lang/Object;ILjava/lang/Object;II)V" } : Jvm.MethodName)) ∈ lw_all := lw_g (lw_at lw_m3 28 rfl) rfl
theorem q734 : (Jvm.Cond.static ({ cls := "java/lang/System", name := "arraycopy", desc := "(Ljava/lang/Object;ILjava/lang/Object;II)V" } : Jvm.MethodName)) ∈ lw_all := lw_g (lw_at lw_m3 29 rfl) rfl
theorem q735 : (Jvm.Cond.native ({ cls := "java/lang/System", name := "arraycopy", desc := "(Ljava/lang/Object;ILjava/lang/Object;II)V" } : Jvm.MethodName)) ∈ lw_all := lw_g (lw_at lw_m3 30 rfl) rfl
theorem q736 : (Jvm.Cond.methodLink "CodeLayout" (117 : Nat) ({ cls := "CodeLayout$Program", name := "take", desc := "()V" } : Jvm.MethodName)) ∈ lw_all := lw_g (lw_at lw_m3 31 rfl) rfl
theorem q737 : (Jvm.Cond.instanceMethod ({ cls := "CodeLayout$Program", name := "take", desc := "()V" } : Jvm.MethodName)) ∈ lw_all := lw_g (lw_at lw_m3 32 rfl) rfl
theorem q738 : (Jvm.Cond.selects "CodeLayout$Program" ({ cls := "CodeLayout$Program", name := "take", desc := "()V" } : Jvm.MethodName) ({ cls := "CodeLayout$Program", name := "take", desc := "()V" } : Jvm.MethodName)) ∈ lw_all := lw_g (lw_at lw_m3 33 rfl) rfl
theorem q739 : (Jvm.Cond.code ({ cls := "CodeLayout$Program", name := "take", desc := "()V" } : Jvm.MethodName) prog_8_method_9_code (3 : Nat) (Option.none : Option Jvm.ClassFile.FieldType)) ∈ lw_all := lw_g (lw_at lw_m3 34 rfl) rfl
theorem q740 : (Jvm.Cond.methodLink "CodeLayout$Program" (117 : Nat) ({ cls := "CodeLayout$Shape", name := "take", desc := "(LCodeLayout$Source;)V" } : Jvm.MethodName)) ∈ lw_all := lw_g (lw_at lw_m3 35 rfl) rfl
theorem q741 : (Jvm.Cond.instanceMethod ({ cls := "CodeLayout$Shape", name := "take", desc := "(LCodeLayout$Source;)V" } : Jvm.MethodName)) ∈ lw_all := lw_g (lw_at lw_m3 36 rfl) rfl
theorem q742 : (Jvm.Cond.selects "CodeLayout$Shape" ({ cls := "CodeLayout$Shape", name := "take", desc := "(LCodeLayout$Source;)V" } : Jvm.MethodName) ({ cls := "CodeLayout$Shape", name := "take", desc := "(LCodeLayout$Source;)V" } : Jvm.MethodName)) ∈ lw_all := lw_g (lw_at lw_m3 37 rfl) rfl
theorem q743 : (Jvm.Cond.code ({ cls := "CodeLayout$Shape", name := "take", desc := "(LCodeLayout$Source;)V" } : Jvm.MethodName) prog_10_method_2_code (3 : Nat) (Option.none : Option Jvm.ClassFile.FieldType)) ∈ lw_all := lw_g (lw_at lw_m3 38 rfl) rfl
theorem q744 : (Jvm.Cond.methodLink "CodeLayout$Shape" (61 : Nat) ({ cls := "CodeLayout$Shape", name := "head", desc := "()V" } : Jvm.MethodName)) ∈ lw_all := lw_g (lw_at lw_m3 39 rfl) rfl
theorem q746 : (Jvm.Cond.instanceMethod ({ cls := "CodeLayout$Shape", name := "head", desc := "()V" } : Jvm.MethodName)) ∈ lw_all := lw_g (lw_at lw_m3 41 rfl) rfl
theorem q747 : (Jvm.Cond.code ({ cls := "CodeLayout$Shape", name := "head", desc := "()V" } : Jvm.MethodName) prog_10_method_8_code (4 : Nat) (Option.none : Option Jvm.ClassFile.FieldType)) ∈ lw_all := lw_g (lw_at lw_m3 42 rfl) rfl
theorem q748 : (Jvm.Cond.methodLink "CodeLayout$Shape" (122 : Nat) ({ cls := "CodeLayout$Source", name := "size", desc := "()I" } : Jvm.MethodName)) ∈ lw_all := lw_g (lw_at lw_m3 43 rfl) rfl
theorem q749 : (Jvm.Cond.declares ({ cls := "CodeLayout$Source", name := "size", desc := "()I" } : Jvm.MethodName)) ∈ lw_tbl := lw_at lw_m3 44 rfl
theorem q750 : (Jvm.Cond.sameMethod "CodeLayout$Source" "CodeLayout$Source" "size" "()I") ∈ lw_all := lw_g (lw_at lw_m3 45 rfl) rfl
theorem q751 : (Jvm.Cond.selects "CodeLayout$Held" ({ cls := "CodeLayout$Source", name := "size", desc := "()I" } : Jvm.MethodName) ({ cls := "CodeLayout$Held", name := "size", desc := "()I" } : Jvm.MethodName)) ∈ lw_all := lw_g (lw_at lw_m3 46 rfl) rfl
theorem q752 : (Jvm.Cond.instanceMethod ({ cls := "CodeLayout$Held", name := "size", desc := "()I" } : Jvm.MethodName)) ∈ lw_all := lw_g (lw_at lw_m3 47 rfl) rfl
theorem q753 : (Jvm.Cond.code ({ cls := "CodeLayout$Held", name := "size", desc := "()I" } : Jvm.MethodName) prog_4_method_2_code (1 : Nat) (Option.some Jvm.ClassFile.FieldType.int)) ∈ lw_all := lw_g (lw_at lw_m3 48 rfl) rfl
theorem q754 : (Jvm.Cond.selects "CodeLayout$Writing" ({ cls := "CodeLayout$Source", name := "size", desc := "()I" } : Jvm.MethodName) ({ cls := "CodeLayout$Writing", name := "size", desc := "()I" } : Jvm.MethodName)) ∈ lw_all := lw_g (lw_at lw_m3 49 rfl) rfl
theorem q755 : (Jvm.Cond.instanceMethod ({ cls := "CodeLayout$Writing", name := "size", desc := "()I" } : Jvm.MethodName)) ∈ lw_all := lw_g (lw_at lw_m3 50 rfl) rfl
theorem q756 : (Jvm.Cond.code ({ cls := "CodeLayout$Writing", name := "size", desc := "()I" } : Jvm.MethodName) prog_14_method_21_code (1 : Nat) (Option.some Jvm.ClassFile.FieldType.int)) ∈ lw_all := lw_g (lw_at lw_m3 51 rfl) rfl
theorem q757 : (Jvm.Cond.methodLink "CodeLayout$Shape" (101 : Nat) ({ cls := "CodeLayout$Trouble", name := "must", desc := "(ZII)V" } : Jvm.MethodName)) ∈ lw_all := lw_g (lw_at lw_m3 52 rfl) rfl
theorem q758 : (Jvm.Cond.instanceMethod ({ cls := "CodeLayout$Trouble", name := "must", desc := "(ZII)V" } : Jvm.MethodName)) ∈ lw_all := lw_g (lw_at lw_m3 53 rfl) rfl
theorem q759 : (Jvm.Cond.selects "CodeLayout$Trouble" ({ cls := "CodeLayout$Trouble", name := "must", desc := "(ZII)V" } : Jvm.MethodName) ({ cls := "CodeLayout$Trouble", name := "must", desc := "(ZII)V" } : Jvm.MethodName)) ∈ lw_all := lw_g (lw_at lw_m3 54 rfl) rfl
theorem q760 : (Jvm.Cond.code ({ cls := "CodeLayout$Trouble", name := "must", desc := "(ZII)V" } : Jvm.MethodName) prog_12_method_2_code (4 : Nat) (Option.none : Option Jvm.ClassFile.FieldType)) ∈ lw_all := lw_g (lw_at lw_m3 55 rfl) rfl
theorem q761 : (Jvm.Cond.methodLink "CodeLayout$Shape" (118 : Nat) ({ cls := "CodeLayout$Source", name := "pair", desc := "(I)J" } : Jvm.MethodName)) ∈ lw_all := lw_g (lw_at lw_m3 56 rfl) rfl
theorem q762 : (Jvm.Cond.instanceMethod ({ cls := "CodeLayout$Source", name := "pair", desc := "(I)J" } : Jvm.MethodName)) ∈ lw_all := lw_g (lw_at lw_m3 57 rfl) rfl
theorem q763 : (Jvm.Cond.sameMethod "CodeLayout$Source" "CodeLayout$Source" "pair" "(I)J") ∈ lw_all := lw_g (lw_at lw_m3 58 rfl) rfl
theorem q764 : (Jvm.Cond.selects "CodeLayout$Held" ({ cls := "CodeLayout$Source", name := "pair", desc := "(I)J" } : Jvm.MethodName) ({ cls := "CodeLayout$Source", name := "pair", desc := "(I)J" } : Jvm.MethodName)) ∈ lw_all := lw_g (lw_at lw_m3 59 rfl) rfl
theorem q765 : (Jvm.Cond.selects "CodeLayout$Writing" ({ cls := "CodeLayout$Source", name := "pair", desc := "(I)J" } : Jvm.MethodName) ({ cls := "CodeLayout$Source", name := "pair", desc := "(I)J" } : Jvm.MethodName)) ∈ lw_all := lw_g (lw_at lw_m3 60 rfl) rfl
theorem q766 : (Jvm.Cond.code ({ cls := "CodeLayout$Source", name := "pair", desc := "(I)J" } : Jvm.MethodName) prog_11_method_6_code (2 : Nat) (Option.some Jvm.ClassFile.FieldType.long)) ∈ lw_all := lw_g (lw_at lw_m3 61 rfl) rfl
theorem q767 : (Jvm.Cond.methodLink "CodeLayout$Source" (16 : Nat) ({ cls := "CodeLayout$Source", name := "word", desc := "(I)I" } : Jvm.MethodName)) ∈ lw_all := lw_g (lw_at lw_m3 62 rfl) rfl
theorem q768 : (Jvm.Cond.instanceMethod ({ cls := "CodeLayout$Source", name := "word", desc := "(I)I" } : Jvm.MethodName)) ∈ lw_all := lw_g (lw_at lw_m3 63 rfl) rfl
theorem q769 : (Jvm.Cond.sameMethod "CodeLayout$Source" "CodeLayout$Source" "word" "(I)I") ∈ lw_all := lw_g (lw_at lw_m3 64 rfl) rfl
theorem q770 : (Jvm.Cond.selects "CodeLayout$Held" ({ cls := "CodeLayout$Source", name := "word", desc := "(I)I" } : Jvm.MethodName) ({ cls := "CodeLayout$Source", name := "word", desc := "(I)I" } : Jvm.MethodName)) ∈ lw_all := lw_g (lw_at lw_m3 65 rfl) rfl
theorem q771 : (Jvm.Cond.selects "CodeLayout$Writing" ({ cls := "CodeLayout$Source", name := "word", desc := "(I)I" } : Jvm.MethodName) ({ cls := "CodeLayout$Source", name := "word", desc := "(I)I" } : Jvm.MethodName)) ∈ lw_all := lw_g (lw_at lw_m3 66 rfl) rfl
theorem q772 : (Jvm.Cond.code ({ cls := "CodeLayout$Source", name := "word", desc := "(I)I" } : Jvm.MethodName) prog_11_method_5_code (2 : Nat) (Option.some Jvm.ClassFile.FieldType.int)) ∈ lw_all := lw_g (lw_at lw_m3 67 rfl) rfl
theorem q773 : (Jvm.Cond.methodLink "CodeLayout$Source" (13 : Nat) ({ cls := "CodeLayout$Source", name := "half", desc := "(I)I" } : Jvm.MethodName)) ∈ lw_all := lw_g (lw_at lw_m3 68 rfl) rfl
theorem q774 : (Jvm.Cond.instanceMethod ({ cls := "CodeLayout$Source", name := "half", desc := "(I)I" } : Jvm.MethodName)) ∈ lw_all := lw_g (lw_at lw_m3 69 rfl) rfl
theorem q775 : (Jvm.Cond.sameMethod "CodeLayout$Source" "CodeLayout$Source" "half" "(I)I") ∈ lw_all := lw_g (lw_at lw_m3 70 rfl) rfl
theorem q776 : (Jvm.Cond.selects "CodeLayout$Held" ({ cls := "CodeLayout$Source", name := "half", desc := "(I)I" } : Jvm.MethodName) ({ cls := "CodeLayout$Source", name := "half", desc := "(I)I" } : Jvm.MethodName)) ∈ lw_all := lw_g (lw_at lw_m3 71 rfl) rfl
theorem q777 : (Jvm.Cond.selects "CodeLayout$Writing" ({ cls := "CodeLayout$Source", name := "half", desc := "(I)I" } : Jvm.MethodName) ({ cls := "CodeLayout$Source", name := "half", desc := "(I)I" } : Jvm.MethodName)) ∈ lw_all := lw_g (lw_at lw_m3 72 rfl) rfl
theorem q778 : (Jvm.Cond.code ({ cls := "CodeLayout$Source", name := "half", desc := "(I)I" } : Jvm.MethodName) prog_11_method_4_code (2 : Nat) (Option.some Jvm.ClassFile.FieldType.int)) ∈ lw_all := lw_g (lw_at lw_m3 73 rfl) rfl
theorem q779 : (Jvm.Cond.methodLink "CodeLayout$Source" (7 : Nat) ({ cls := "CodeLayout$Source", name := "at", desc := "(I)I" } : Jvm.MethodName)) ∈ lw_all := lw_g (lw_at lw_m3 74 rfl) rfl
theorem q780 : (Jvm.Cond.declares ({ cls := "CodeLayout$Source", name := "at", desc := "(I)I" } : Jvm.MethodName)) ∈ lw_tbl := lw_at lw_m3 75 rfl
theorem q781 : (Jvm.Cond.sameMethod "CodeLayout$Source" "CodeLayout$Source" "at" "(I)I") ∈ lw_all := lw_g (lw_at lw_m3 76 rfl) rfl
theorem q782 : (Jvm.Cond.selects "CodeLayout$Held" ({ cls := "CodeLayout$Source", name := "at", desc := "(I)I" } : Jvm.MethodName) ({ cls := "CodeLayout$Held", name := "at", desc := "(I)I" } : Jvm.MethodName)) ∈ lw_all := lw_g (lw_at lw_m3 77 rfl) rfl
theorem q783 : (Jvm.Cond.instanceMethod ({ cls := "CodeLayout$Held", name := "at", desc := "(I)I" } : Jvm.MethodName)) ∈ lw_all := lw_g (lw_at lw_m3 78 rfl) rfl
theorem q784 : (Jvm.Cond.code ({ cls := "CodeLayout$Held", name := "at", desc := "(I)I" } : Jvm.MethodName) prog_4_method_3_code (2 : Nat) (Option.some Jvm.ClassFile.FieldType.int)) ∈ lw_all := lw_g (lw_at lw_m3 79 rfl) rfl
theorem q785 : (Jvm.Cond.selects "CodeLayout$Writing" ({ cls := "CodeLayout$Source", name := "at", desc := "(I)I" } : Jvm.MethodName) ({ cls := "CodeLayout$Writing", name := "at", desc := "(I)I" } : Jvm.MethodName)) ∈ lw_all := lw_g (lw_at lw_m3 80 rfl) rfl
theorem q786 : (Jvm.Cond.instanceMethod ({ cls := "CodeLayout$Writing", name := "at", desc := "(I)I" } : Jvm.MethodName)) ∈ lw_all := lw_g (lw_at lw_m3 81 rfl) rfl
theorem q787 : (Jvm.Cond.code ({ cls := "CodeLayout$Writing", name := "at", desc := "(I)I" } : Jvm.MethodName) prog_14_method_22_code (4 : Nat) (Option.some Jvm.ClassFile.FieldType.int)) ∈ lw_all := lw_g (lw_at lw_m3 82 rfl) rfl
theorem q788 : (Jvm.Cond.methodLink "CodeLayout$Writing" (226 : Nat) ({ cls := "CodeLayout$Shape", name := "textOffset", desc := "()I" } : Jvm.MethodName)) ∈ lw_all := lw_g (lw_at lw_m3 83 rfl) rfl
theorem q789 : (Jvm.Cond.instanceMethod ({ cls := "CodeLayout$Shape", name := "textOffset", desc := "()I" } : Jvm.MethodName)) ∈ lw_all := lw_g (lw_at lw_m3 84 rfl) rfl
theorem q790 : (Jvm.Cond.selects "CodeLayout$Shape" ({ cls := "CodeLayout$Shape", name := "textOffset", desc := "()I" } : Jvm.MethodName) ({ cls := "CodeLayout$Shape", name := "textOffset", desc := "()I" } : Jvm.MethodName)) ∈ lw_all := lw_g (lw_at lw_m3 85 rfl) rfl
theorem q791 : (Jvm.Cond.code ({ cls := "CodeLayout$Shape", name := "textOffset", desc := "()I" } : Jvm.MethodName) prog_10_method_6_code (1 : Nat) (Option.some Jvm.ClassFile.FieldType.int)) ∈ lw_all := lw_g (lw_at lw_m3 86 rfl) rfl
theorem q792 : (Jvm.Cond.methodLink "CodeLayout$Shape" (87 : Nat) ({ cls := "CodeLayout$Shape", name := "last", desc := "()I" } : Jvm.MethodName)) ∈ lw_all := lw_g (lw_at lw_m3 87 rfl) rfl
theorem q793 : (Jvm.Cond.instanceMethod ({ cls := "CodeLayout$Shape", name := "last", desc := "()I" } : Jvm.MethodName)) ∈ lw_all := lw_g (lw_at lw_m3 88 rfl) rfl
theorem q794 : (Jvm.Cond.selects "CodeLayout$Shape" ({ cls := "CodeLayout$Shape", name := "last", desc := "()I" } : Jvm.MethodName) ({ cls := "CodeLayout$Shape", name := "last", desc := "()I" } : Jvm.MethodName)) ∈ lw_all := lw_g (lw_at lw_m3 89 rfl) rfl
theorem q795 : (Jvm.Cond.code ({ cls := "CodeLayout$Shape", name := "last", desc := "()I" } : Jvm.MethodName) prog_10_method_3_code (1 : Nat) (Option.some Jvm.ClassFile.FieldType.int)) ∈ lw_all := lw_g (lw_at lw_m3 90 rfl) rfl
theorem q796 : (Jvm.Cond.methodLink "CodeLayout$Writing" (232 : Nat) ({ cls := "CodeLayout$Writing", name := "wordAt", desc := "(I)I" } : Jvm.MethodName)) ∈ lw_all := lw_g (lw_at lw_m3 91 rfl) rfl
theorem q797 : (Jvm.Cond.instanceMethod ({ cls := "CodeLayout$Writing", name := "wordAt", desc := "(I)I" } : Jvm.MethodName)) ∈ lw_all := lw_g (lw_at lw_m3 92 rfl) rfl
theorem q798 : (Jvm.Cond.selects "CodeLayout$Writing" ({ cls := "CodeLayout$Writing", name := "wordAt", desc := "(I)I" } : Jvm.MethodName) ({ cls := "CodeLayout$Writing", name := "wordAt", desc := "(I)I" } : Jvm.MethodName)) ∈ lw_all := lw_g (lw_at lw_m3 93 rfl) rfl
theorem q799 : (Jvm.Cond.code ({ cls := "CodeLayout$Writing", name := "wordAt", desc := "(I)I" } : Jvm.MethodName) prog_14_method_20_code (2 : Nat) (Option.some Jvm.ClassFile.FieldType.int)) ∈ lw_all := lw_g (lw_at lw_m3 94 rfl) rfl
theorem q800 : (Jvm.Cond.constantLong "CodeLayout$Source" (19 : Nat) (4294967295 : Int64)) ∈ lw_all := lw_g (lw_at lw_m3 95 rfl) rfl
theorem q801 : (Jvm.Cond.constantLong "CodeLayout$Shape" (124 : Nat) (282584257676671 : Int64)) ∈ lw_all := lw_g (lw_at lw_m3 96 rfl) rfl
theorem q802 : (Jvm.Cond.constantLong "CodeLayout$Shape" (126 : Nat) (2 : Int64)) ∈ lw_all := lw_g (lw_at lw_m3 97 rfl) rfl
theorem q803 : (Jvm.Cond.methodLink "CodeLayout$Shape" (128 : Nat) ({ cls := "CodeLayout$Shape", name := "field", desc := "(IIJ)V" } : Jvm.MethodName)) ∈ lw_all := lw_g (lw_at lw_m3 98 rfl) rfl
theorem q805 : (Jvm.Cond.instanceMethod ({ cls := "CodeLayout$Shape", name := "field", desc := "(IIJ)V" } : Jvm.MethodName)) ∈ lw_all := lw_g (lw_at lw_m3 100 rfl) rfl
theorem q806 : (Jvm.Cond.code ({ cls := "CodeLayout$Shape", name := "field", desc := "(IIJ)V" } : Jvm.MethodName) prog_10_method_7_code (7 : Nat) (Option.none : Option Jvm.ClassFile.FieldType)) ∈ lw_all := lw_g (lw_at lw_m3 101 rfl) rfl
theorem q807 : (Jvm.Cond.methodLink "CodeLayout$Shape" (107 : Nat) ({ cls := "CodeLayout$Source", name := "half", desc := "(I)I" } : Jvm.MethodName)) ∈ lw_all := lw_g (lw_at lw_m3 102 rfl) rfl
theorem q808 : (Jvm.Cond.methodLink "CodeLayout$Shape" (113 : Nat) ({ cls := "CodeLayout$Source", name := "word", desc := "(I)I" } : Jvm.MethodName)) ∈ lw_all := lw_g (lw_at lw_m3 103 rfl) rfl
theorem q809 : (Jvm.Cond.constantLong "CodeLayout$Shape" (116 : Nat) (4294967295 : Int64)) ∈ lw_all := lw_g (lw_at lw_m3 104 rfl) rfl
theorem q810 : (Jvm.Cond.constantLong "CodeLayout$Shape" (132 : Nat) (183 : Int64)) ∈ lw_all := lw_g (lw_at lw_m3 105 rfl) rfl
theorem q811 : (Jvm.Cond.constantLong "CodeLayout$Shape" (134 : Nat) (64 : Int64)) ∈ lw_all := lw_g (lw_at lw_m3 106 rfl) rfl
theorem q812 : (Jvm.Cond.constantLong "CodeLayout$Shape" (136 : Nat) (56 : Int64)) ∈ lw_all := lw_g (lw_at lw_m3 107 rfl) rfl
theorem q813 : (Jvm.Cond.constantLong "CodeLayout$Shape" (141 : Nat) (8 : Int64)) ∈ lw_all := lw_g (lw_at lw_m3 108 rfl) rfl
theorem q814 : (Jvm.Cond.methodLink "CodeLayout$Shape" (68 : Nat) ({ cls := "CodeLayout$Shape", name := "segment", desc := "(I)V" } : Jvm.MethodName)) ∈ lw_all := lw_g (lw_at lw_m3 109 rfl) rfl
theorem q816 : (Jvm.Cond.instanceMethod ({ cls := "CodeLayout$Shape", name := "segment", desc := "(I)V" } : Jvm.MethodName)) ∈ lw_all := lw_g (lw_at lw_m3 111 rfl) rfl
theorem q817 : (Jvm.Cond.code ({ cls := "CodeLayout$Shape", name := "segment", desc := "(I)V" } : Jvm.MethodName) prog_10_method_9_code (13 : Nat) (Option.none : Option Jvm.ClassFile.FieldType)) ∈ lw_all := lw_g (lw_at lw_m3 112 rfl) rfl
theorem q818 : (Jvm.Cond.methodLinkNest "CodeLayout$Shape" (146 : Nat) ({ cls := "CodeLayout", name := "isAbove", desc := "(JJ)Z" } : Jvm.MethodName) "CodeLayout") ∈ lw_tbl := lw_at lw_m3 113 rfl
theorem q819 : (Jvm.Cond.static ({ cls := "CodeLayout", name := "isAbove", desc := "(JJ)Z" } : Jvm.MethodName)) ∈ lw_all := lw_g (lw_at lw_m3 114 rfl) rfl
theorem q820 : (Jvm.Cond.code ({ cls := "CodeLayout", name := "isAbove", desc := "(JJ)Z" } : Jvm.MethodName) prog_1_method_1_code (4 : Nat) (Option.some Jvm.ClassFile.FieldType.boolean)) ∈ lw_all := lw_g (lw_at lw_m3 115 rfl) rfl
theorem q821 : (Jvm.Cond.constantLong "CodeLayout" (3 : Nat) (-9223372036854775808 : Int64)) ∈ lw_all := lw_g (lw_at lw_m3 116 rfl) rfl
theorem q822 : (Jvm.Cond.constantLong "CodeLayout$Shape" (150 : Nat) (65536 : Int64)) ∈ lw_all := lw_g (lw_at lw_m3 117 rfl) rfl
theorem q823 : (Jvm.Cond.methodLink "CodeLayout$Shape" (152 : Nat) ({ cls := "java/lang/Math", name := "max", desc := "(JJ)J" } : Jvm.MethodName)) ∈ lw_all := lw_g (lw_at lw_m3 118 rfl) rfl
theorem q824 : (Jvm.Cond.static ({ cls := "java/lang/Math", name := "max", desc := "(JJ)J" } : Jvm.MethodName)) ∈ lw_all := lw_g (lw_at lw_m3 119 rfl) rfl
theorem q825 : (Jvm.Cond.code ({ cls := "java/lang/Math", name := "max", desc := "(JJ)J" } : Jvm.MethodName) prog_26_method_66_code (4 : Nat) (Option.some Jvm.ClassFile.FieldType.long)) ∈ lw_all := lw_g (lw_at lw_m3 120 rfl) rfl
theorem q826 : (Jvm.Cond.constantLong "CodeLayout$Shape" (158 : Nat) (134217728 : Int64)) ∈ lw_all := lw_g (lw_at lw_m3 121 rfl) rfl
theorem q827 : (Jvm.Cond.constantLong "CodeLayout$Shape" (160 : Nat) (16 : Int64)) ∈ lw_all := lw_g (lw_at lw_m3 122 rfl) rfl
theorem q828 : (Jvm.Cond.constantLong "CodeLayout$Shape" (162 : Nat) (4194304 : Int64)) ∈ lw_all := lw_g (lw_at lw_m3 123 rfl) rfl
theorem q829 : (Jvm.Cond.methodLink "CodeLayout$Shape" (72 : Nat) ({ cls := "CodeLayout$Shape", name := "sections", desc := "()V" } : Jvm.MethodName)) ∈ lw_all := lw_g (lw_at lw_m3 124 rfl) rfl
theorem q831 : (Jvm.Cond.instanceMethod ({ cls := "CodeLayout$Shape", name := "sections", desc := "()V" } : Jvm.MethodName)) ∈ lw_all := lw_g (lw_at lw_m3 126 rfl) rfl
theorem q832 : (Jvm.Cond.code ({ cls := "CodeLayout$Shape", name := "sections", desc := "()V" } : Jvm.MethodName) prog_10_method_11_code (6 : Nat) (Option.none : Option Jvm.ClassFile.FieldType)) ∈ lw_all := lw_g (lw_at lw_m3 127 rfl) rfl
theorem q833 : (Jvm.Cond.methodLink "CodeLayout$Shape" (164 : Nat) ({ cls := "CodeLayout$Shape", name := "section", desc := "(I)V" } : Jvm.MethodName)) ∈ lw_all := lw_g (lw_at lw_m3 128 rfl) rfl
theorem q835 : (Jvm.Cond.instanceMethod ({ cls := "CodeLayout$Shape", name := "section", desc := "(I)V" } : Jvm.MethodName)) ∈ lw_all := lw_g (lw_at lw_m3 130 rfl) rfl
theorem q836 : (Jvm.Cond.code ({ cls := "CodeLayout$Shape", name := "section", desc := "(I)V" } : Jvm.MethodName) prog_10_method_15_code (10 : Nat) (Option.none : Option Jvm.ClassFile.FieldType)) ∈ lw_all := lw_g (lw_at lw_m3 131 rfl) rfl
theorem q837 : (Jvm.Cond.methodLink "CodeLayout$Shape" (176 : Nat) ({ cls := "CodeLayout$Shape", name := "headOf", desc := "(I)I" } : Jvm.MethodName)) ∈ lw_all := lw_g (lw_at lw_m3 132 rfl) rfl
theorem q838 : (Jvm.Cond.instanceMethod ({ cls := "CodeLayout$Shape", name := "headOf", desc := "(I)I" } : Jvm.MethodName)) ∈ lw_all := lw_g (lw_at lw_m3 133 rfl) rfl
theorem q839 : (Jvm.Cond.selects "CodeLayout$Shape" ({ cls := "CodeLayout$Shape", name := "headOf", desc := "(I)I" } : Jvm.MethodName) ({ cls := "CodeLayout$Shape", name := "headOf", desc := "(I)I" } : Jvm.MethodName)) ∈ lw_all := lw_g (lw_at lw_m3 134 rfl) rfl
theorem q840 : (Jvm.Cond.code ({ cls := "CodeLayout$Shape", name := "headOf", desc := "(I)I" } : Jvm.MethodName) prog_10_method_10_code (2 : Nat) (Option.some Jvm.ClassFile.FieldType.int)) ∈ lw_all := lw_g (lw_at lw_m3 135 rfl) rfl
theorem q841 : (Jvm.Cond.constantLong "CodeLayout$Shape" (198 : Nat) (6 : Int64)) ∈ lw_all := lw_g (lw_at lw_m3 136 rfl) rfl
theorem q842 : (Jvm.Cond.constantLong "CodeLayout$Shape" (200 : Nat) (3 : Int64)) ∈ lw_all := lw_g (lw_at lw_m3 137 rfl) rfl
theorem q843 : (Jvm.Cond.constantLong "CodeLayout$Shape" (202 : Nat) (24 : Int64)) ∈ lw_all := lw_g (lw_at lw_m3 138 rfl) rfl
theorem q844 : (Jvm.Cond.methodLink "CodeLayout$Shape" (204 : Nat) ({ cls := "CodeLayout$Source", name := "at", desc := "(I)I" } : Jvm.MethodName)) ∈ lw_all := lw_g (lw_at lw_m3 139 rfl) rfl
theorem q845 : (Jvm.Cond.methodLink "CodeLayout$Shape" (172 : Nat) ({ cls := "CodeLayout$Shape", name := "isCode", desc := "(I)Z" } : Jvm.MethodName)) ∈ lw_all := lw_g (lw_at lw_m3 140 rfl) rfl
theorem q846 : (Jvm.Cond.instanceMethod ({ cls := "CodeLayout$Shape", name := "isCode", desc := "(I)Z" } : Jvm.MethodName)) ∈ lw_all := lw_g (lw_at lw_m3 141 rfl) rfl
theorem q847 : (Jvm.Cond.selects "CodeLayout$Shape" ({ cls := "CodeLayout$Shape", name := "isCode", desc := "(I)Z" } : Jvm.MethodName) ({ cls := "CodeLayout$Shape", name := "isCode", desc := "(I)Z" } : Jvm.MethodName)) ∈ lw_all := lw_g (lw_at lw_m3 142 rfl) rfl
theorem q848 : (Jvm.Cond.code ({ cls := "CodeLayout$Shape", name := "isCode", desc := "(I)Z" } : Jvm.MethodName) prog_10_method_13_code (2 : Nat) (Option.some Jvm.ClassFile.FieldType.boolean)) ∈ lw_all := lw_g (lw_at lw_m3 143 rfl) rfl
theorem q849 : (Jvm.Cond.constantLong "CodeLayout$Shape" (99 : Nat) (4 : Int64)) ∈ lw_all := lw_g (lw_at lw_m3 144 rfl) rfl
theorem q850 : (Jvm.Cond.methodLink "CodeLayout$Shape" (179 : Nat) ({ cls := "CodeLayout$Shape", name := "textOffset", desc := "()I" } : Jvm.MethodName)) ∈ lw_all := lw_g (lw_at lw_m3 145 rfl) rfl
theorem q851 : (Jvm.Cond.methodLink "CodeLayout$Shape" (182 : Nat) ({ cls := "CodeLayout$Shape", name := "isData", desc := "(I)Z" } : Jvm.MethodName)) ∈ lw_all := lw_g (lw_at lw_m3 146 rfl) rfl
theorem q852 : (Jvm.Cond.instanceMethod ({ cls := "CodeLayout$Shape", name := "isData", desc := "(I)Z" } : Jvm.MethodName)) ∈ lw_all := lw_g (lw_at lw_m3 147 rfl) rfl
theorem q853 : (Jvm.Cond.selects "CodeLayout$Shape" ({ cls := "CodeLayout$Shape", name := "isData", desc := "(I)Z" } : Jvm.MethodName) ({ cls := "CodeLayout$Shape", name := "isData", desc := "(I)Z" } : Jvm.MethodName)) ∈ lw_all := lw_g (lw_at lw_m3 148 rfl) rfl
theorem q854 : (Jvm.Cond.code ({ cls := "CodeLayout$Shape", name := "isData", desc := "(I)Z" } : Jvm.MethodName) prog_10_method_14_code (2 : Nat) (Option.some Jvm.ClassFile.FieldType.boolean)) ∈ lw_all := lw_g (lw_at lw_m3 149 rfl) rfl
theorem q855 : (Jvm.Cond.methodLink "CodeLayout$Shape" (185 : Nat) ({ cls := "CodeLayout$Shape", name := "isHeld", desc := "(I)Z" } : Jvm.MethodName)) ∈ lw_all := lw_g (lw_at lw_m3 150 rfl) rfl
theorem q857 : (Jvm.Cond.instanceMethod ({ cls := "CodeLayout$Shape", name := "isHeld", desc := "(I)Z" } : Jvm.MethodName)) ∈ lw_all := lw_g (lw_at lw_m3 152 rfl) rfl
theorem q858 : (Jvm.Cond.code ({ cls := "CodeLayout$Shape", name := "isHeld", desc := "(I)Z" } : Jvm.MethodName) prog_10_method_16_code (6 : Nat) (Option.some Jvm.ClassFile.FieldType.boolean)) ∈ lw_all := lw_g (lw_at lw_m3 153 rfl) rfl
theorem q859 : (Jvm.Cond.methodLink "CodeLayout$Shape" (188 : Nat) ({ cls := "CodeLayout$Shape", name := "areApart", desc := "(II)Z" } : Jvm.MethodName)) ∈ lw_all := lw_g (lw_at lw_m3 154 rfl) rfl
theorem q861 : (Jvm.Cond.instanceMethod ({ cls := "CodeLayout$Shape", name := "areApart", desc := "(II)Z" } : Jvm.MethodName)) ∈ lw_all := lw_g (lw_at lw_m3 156 rfl) rfl
theorem q862 : (Jvm.Cond.code ({ cls := "CodeLayout$Shape", name := "areApart", desc := "(II)Z" } : Jvm.MethodName) prog_10_method_17_code (3 : Nat) (Option.some Jvm.ClassFile.FieldType.boolean)) ∈ lw_all := lw_g (lw_at lw_m3 157 rfl) rfl
theorem q863 : (Jvm.Cond.methodLink "CodeLayout$Shape" (192 : Nat) ({ cls := "CodeLayout$Shape", name := "isOf", desc := "(II)Z" } : Jvm.MethodName)) ∈ lw_all := lw_g (lw_at lw_m3 158 rfl) rfl
theorem q865 : (Jvm.Cond.instanceMethod ({ cls := "CodeLayout$Shape", name := "isOf", desc := "(II)Z" } : Jvm.MethodName)) ∈ lw_all := lw_g (lw_at lw_m3 160 rfl) rfl
theorem q866 : (Jvm.Cond.code ({ cls := "CodeLayout$Shape", name := "isOf", desc := "(II)Z" } : Jvm.MethodName) prog_10_method_12_code (3 : Nat) (Option.some Jvm.ClassFile.FieldType.boolean)) ∈ lw_all := lw_g (lw_at lw_m3 161 rfl) rfl
theorem q867 : (Jvm.Cond.methodLink "CodeLayout$Shape" (195 : Nat) ({ cls := "CodeLayout$Shape", name := "isFixed", desc := "(I)Z" } : Jvm.MethodName)) ∈ lw_all := lw_g (lw_at lw_m3 162 rfl) rfl
theorem q869 : (Jvm.Cond.instanceMethod ({ cls := "CodeLayout$Shape", name := "isFixed", desc := "(I)Z" } : Jvm.MethodName)) ∈ lw_all := lw_g (lw_at lw_m3 164 rfl) rfl
theorem q870 : (Jvm.Cond.code ({ cls := "CodeLayout$Shape", name := "isFixed", desc := "(I)Z" } : Jvm.MethodName) prog_10_method_18_code (3 : Nat) (Option.some Jvm.ClassFile.FieldType.boolean)) ∈ lw_all := lw_g (lw_at lw_m3 165 rfl) rfl
theorem q871 : (Jvm.Cond.methodLinkNest "CodeLayout$Shape" (95 : Nat) ({ cls := "CodeLayout", name := "isIn", desc := "(JJJ)Z" } : Jvm.MethodName) "CodeLayout") ∈ lw_tbl := lw_at lw_m3 166 rfl
theorem q872 : (Jvm.Cond.static ({ cls := "CodeLayout", name := "isIn", desc := "(JJJ)Z" } : Jvm.MethodName)) ∈ lw_all := lw_g (lw_at lw_m3 167 rfl) rfl
theorem q873 : (Jvm.Cond.code ({ cls := "CodeLayout", name := "isIn", desc := "(JJJ)Z" } : Jvm.MethodName) prog_1_method_2_code (6 : Nat) (Option.some Jvm.ClassFile.FieldType.boolean)) ∈ lw_all := lw_g (lw_at lw_m3 168 rfl) rfl
theorem q874 : (Jvm.Cond.methodLink "CodeLayout" (5 : Nat) ({ cls := "CodeLayout", name := "isAbove", desc := "(JJ)Z" } : Jvm.MethodName)) ∈ lw_all := lw_g (lw_at lw_m3 169 rfl) rfl
theorem q875 : (Jvm.Cond.methodLink "CodeLayout$Shape" (75 : Nat) ({ cls := "CodeLayout$Shape", name := "symbols", desc := "()V" } : Jvm.MethodName)) ∈ lw_all := lw_g (lw_at lw_m3 170 rfl) rfl
theorem q877 : (Jvm.Cond.instanceMethod ({ cls := "CodeLayout$Shape", name := "symbols", desc := "()V" } : Jvm.MethodName)) ∈ lw_all := lw_g (lw_at lw_m3 172 rfl) rfl
theorem q878 : (Jvm.Cond.code ({ cls := "CodeLayout$Shape", name := "symbols", desc := "()V" } : Jvm.MethodName) prog_10_method_24_code (6 : Nat) (Option.none : Option Jvm.ClassFile.FieldType)) ∈ lw_all := lw_g (lw_at lw_m3 173 rfl) rfl
theorem q879 : (Jvm.Cond.methodLink "CodeLayout$Shape" (207 : Nat) ({ cls := "CodeLayout$Shape", name := "symbolAt", desc := "(I)I" } : Jvm.MethodName)) ∈ lw_all := lw_g (lw_at lw_m3 174 rfl) rfl
theorem q880 : (Jvm.Cond.instanceMethod ({ cls := "CodeLayout$Shape", name := "symbolAt", desc := "(I)I" } : Jvm.MethodName)) ∈ lw_all := lw_g (lw_at lw_m3 175 rfl) rfl
theorem q881 : (Jvm.Cond.selects "CodeLayout$Shape" ({ cls := "CodeLayout$Shape", name := "symbolAt", desc := "(I)I" } : Jvm.MethodName) ({ cls := "CodeLayout$Shape", name := "symbolAt", desc := "(I)I" } : Jvm.MethodName)) ∈ lw_all := lw_g (lw_at lw_m3 176 rfl) rfl
theorem q882 : (Jvm.Cond.code ({ cls := "CodeLayout$Shape", name := "symbolAt", desc := "(I)I" } : Jvm.MethodName) prog_10_method_20_code (2 : Nat) (Option.some Jvm.ClassFile.FieldType.int)) ∈ lw_all := lw_g (lw_at lw_m3 177 rfl) rfl
theorem q883 : (Jvm.Cond.methodLink "CodeLayout$Shape" (210 : Nat) ({ cls := "CodeLayout$Shape", name := "symbolCount", desc := "()I" } : Jvm.MethodName)) ∈ lw_all := lw_g (lw_at lw_m3 178 rfl) rfl
theorem q884 : (Jvm.Cond.instanceMethod ({ cls := "CodeLayout$Shape", name := "symbolCount", desc := "()I" } : Jvm.MethodName)) ∈ lw_all := lw_g (lw_at lw_m3 179 rfl) rfl
theorem q885 : (Jvm.Cond.selects "CodeLayout$Shape" ({ cls := "CodeLayout$Shape", name := "symbolCount", desc := "()I" } : Jvm.MethodName) ({ cls := "CodeLayout$Shape", name := "symbolCount", desc := "()I" } : Jvm.MethodName)) ∈ lw_all := lw_g (lw_at lw_m3 180 rfl) rfl
theorem q886 : (Jvm.Cond.code ({ cls := "CodeLayout$Shape", name := "symbolCount", desc := "()I" } : Jvm.MethodName) prog_10_method_19_code (1 : Nat) (Option.some Jvm.ClassFile.FieldType.int)) ∈ lw_all := lw_g (lw_at lw_m3 181 rfl) rfl
theorem q887 : (Jvm.Cond.constant "CodeLayout$Shape" (213 : Nat) (65521 : Int32)) ∈ lw_all := lw_g (lw_at lw_m3 182 rfl) rfl
theorem q888 : (Jvm.Cond.methodLink "CodeLayout$Shape" (214 : Nat) ({ cls := "CodeLayout$Shape", name := "valueOf", desc := "(I)J" } : Jvm.MethodName)) ∈ lw_all := lw_g (lw_at lw_m3 183 rfl) rfl
theorem q889 : (Jvm.Cond.instanceMethod ({ cls := "CodeLayout$Shape", name := "valueOf", desc := "(I)J" } : Jvm.MethodName)) ∈ lw_all := lw_g (lw_at lw_m3 184 rfl) rfl
theorem q890 : (Jvm.Cond.selects "CodeLayout$Shape" ({ cls := "CodeLayout$Shape", name := "valueOf", desc := "(I)J" } : Jvm.MethodName) ({ cls := "CodeLayout$Shape", name := "valueOf", desc := "(I)J" } : Jvm.MethodName)) ∈ lw_all := lw_g (lw_at lw_m3 185 rfl) rfl
theorem q891 : (Jvm.Cond.code ({ cls := "CodeLayout$Shape", name := "valueOf", desc := "(I)J" } : Jvm.MethodName) prog_10_method_23_code (2 : Nat) (Option.some Jvm.ClassFile.FieldType.long)) ∈ lw_all := lw_g (lw_at lw_m3 186 rfl) rfl
theorem q892 : (Jvm.Cond.methodLink "CodeLayout$Shape" (217 : Nat) ({ cls := "CodeLayout$Shape", name := "isText", desc := "(J)Z" } : Jvm.MethodName)) ∈ lw_all := lw_g (lw_at lw_m3 187 rfl) rfl
theorem q893 : (Jvm.Cond.instanceMethod ({ cls := "CodeLayout$Shape", name := "isText", desc := "(J)Z" } : Jvm.MethodName)) ∈ lw_all := lw_g (lw_at lw_m3 188 rfl) rfl
theorem q894 : (Jvm.Cond.selects "CodeLayout$Shape" ({ cls := "CodeLayout$Shape", name := "isText", desc := "(J)Z" } : Jvm.MethodName) ({ cls := "CodeLayout$Shape", name := "isText", desc := "(J)Z" } : Jvm.MethodName)) ∈ lw_all := lw_g (lw_at lw_m3 189 rfl) rfl
theorem q895 : (Jvm.Cond.code ({ cls := "CodeLayout$Shape", name := "isText", desc := "(J)Z" } : Jvm.MethodName) prog_10_method_5_code (3 : Nat) (Option.some Jvm.ClassFile.FieldType.boolean)) ∈ lw_all := lw_g (lw_at lw_m3 190 rfl) rfl
theorem q896 : (Jvm.Cond.methodLink "CodeLayout$Shape" (91 : Nat) ({ cls := "CodeLayout$Shape", name := "end", desc := "()J" } : Jvm.MethodName)) ∈ lw_all := lw_g (lw_at lw_m3 191 rfl) rfl
theorem q897 : (Jvm.Cond.instanceMethod ({ cls := "CodeLayout$Shape", name := "end", desc := "()J" } : Jvm.MethodName)) ∈ lw_all := lw_g (lw_at lw_m3 192 rfl) rfl
theorem q898 : (Jvm.Cond.selects "CodeLayout$Shape" ({ cls := "CodeLayout$Shape", name := "end", desc := "()J" } : Jvm.MethodName) ({ cls := "CodeLayout$Shape", name := "end", desc := "()J" } : Jvm.MethodName)) ∈ lw_all := lw_g (lw_at lw_m3 193 rfl) rfl
theorem q899 : (Jvm.Cond.code ({ cls := "CodeLayout$Shape", name := "end", desc := "()J" } : Jvm.MethodName) prog_10_method_4_code (1 : Nat) (Option.some Jvm.ClassFile.FieldType.long)) ∈ lw_all := lw_g (lw_at lw_m3 194 rfl) rfl
theorem q900 : (Jvm.Cond.methodLink "CodeLayout$Shape" (80 : Nat) ({ cls := "CodeLayout$Shape", name := "fixes", desc := "(I)V" } : Jvm.MethodName)) ∈ lw_all := lw_g (lw_at lw_m3 195 rfl) rfl
theorem q902 : (Jvm.Cond.instanceMethod ({ cls := "CodeLayout$Shape", name := "fixes", desc := "(I)V" } : Jvm.MethodName)) ∈ lw_all := lw_g (lw_at lw_m3 197 rfl) rfl
theorem q903 : (Jvm.Cond.code ({ cls := "CodeLayout$Shape", name := "fixes", desc := "(I)V" } : Jvm.MethodName) prog_10_method_32_code (12 : Nat) (Option.none : Option Jvm.ClassFile.FieldType)) ∈ lw_all := lw_g (lw_at lw_m3 198 rfl) rfl
theorem q904 : (Jvm.Cond.methodLink "CodeLayout$Shape" (224 : Nat) ({ cls := "CodeLayout$Shape", name := "fixCount", desc := "(I)I" } : Jvm.MethodName)) ∈ lw_all := lw_g (lw_at lw_m3 199 rfl) rfl
theorem q905 : (Jvm.Cond.instanceMethod ({ cls := "CodeLayout$Shape", name := "fixCount", desc := "(I)I" } : Jvm.MethodName)) ∈ lw_all := lw_g (lw_at lw_m3 200 rfl) rfl
theorem q906 : (Jvm.Cond.selects "CodeLayout$Shape" ({ cls := "CodeLayout$Shape", name := "fixCount", desc := "(I)I" } : Jvm.MethodName) ({ cls := "CodeLayout$Shape", name := "fixCount", desc := "(I)I" } : Jvm.MethodName)) ∈ lw_all := lw_g (lw_at lw_m3 201 rfl) rfl
theorem q907 : (Jvm.Cond.code ({ cls := "CodeLayout$Shape", name := "fixCount", desc := "(I)I" } : Jvm.MethodName) prog_10_method_25_code (2 : Nat) (Option.some Jvm.ClassFile.FieldType.int)) ∈ lw_all := lw_g (lw_at lw_m3 202 rfl) rfl
theorem q908 : (Jvm.Cond.methodLink "CodeLayout$Shape" (227 : Nat) ({ cls := "CodeLayout$Shape", name := "fixAt", desc := "(II)I" } : Jvm.MethodName)) ∈ lw_all := lw_g (lw_at lw_m3 203 rfl) rfl
theorem q909 : (Jvm.Cond.instanceMethod ({ cls := "CodeLayout$Shape", name := "fixAt", desc := "(II)I" } : Jvm.MethodName)) ∈ lw_all := lw_g (lw_at lw_m3 204 rfl) rfl
theorem q910 : (Jvm.Cond.selects "CodeLayout$Shape" ({ cls := "CodeLayout$Shape", name := "fixAt", desc := "(II)I" } : Jvm.MethodName) ({ cls := "CodeLayout$Shape", name := "fixAt", desc := "(II)I" } : Jvm.MethodName)) ∈ lw_all := lw_g (lw_at lw_m3 205 rfl) rfl
theorem q911 : (Jvm.Cond.code ({ cls := "CodeLayout$Shape", name := "fixAt", desc := "(II)I" } : Jvm.MethodName) prog_10_method_26_code (3 : Nat) (Option.some Jvm.ClassFile.FieldType.int)) ∈ lw_all := lw_g (lw_at lw_m3 206 rfl) rfl
theorem q912 : (Jvm.Cond.methodLink "CodeLayout$Shape" (231 : Nat) ({ cls := "CodeLayout$Shape", name := "fixType", desc := "(I)I" } : Jvm.MethodName)) ∈ lw_all := lw_g (lw_at lw_m3 207 rfl) rfl
theorem q913 : (Jvm.Cond.instanceMethod ({ cls := "CodeLayout$Shape", name := "fixType", desc := "(I)I" } : Jvm.MethodName)) ∈ lw_all := lw_g (lw_at lw_m3 208 rfl) rfl
theorem q914 : (Jvm.Cond.selects "CodeLayout$Shape" ({ cls := "CodeLayout$Shape", name := "fixType", desc := "(I)I" } : Jvm.MethodName) ({ cls := "CodeLayout$Shape", name := "fixType", desc := "(I)I" } : Jvm.MethodName)) ∈ lw_all := lw_g (lw_at lw_m3 209 rfl) rfl
theorem q915 : (Jvm.Cond.code ({ cls := "CodeLayout$Shape", name := "fixType", desc := "(I)I" } : Jvm.MethodName) prog_10_method_27_code (2 : Nat) (Option.some Jvm.ClassFile.FieldType.int)) ∈ lw_all := lw_g (lw_at lw_m3 210 rfl) rfl
theorem q916 : (Jvm.Cond.methodLink "CodeLayout$Shape" (234 : Nat) ({ cls := "CodeLayout$Shape", name := "isTextFix", desc := "(I)Z" } : Jvm.MethodName)) ∈ lw_all := lw_g (lw_at lw_m3 211 rfl) rfl
theorem q917 : (Jvm.Cond.static ({ cls := "CodeLayout$Shape", name := "isTextFix", desc := "(I)Z" } : Jvm.MethodName)) ∈ lw_all := lw_g (lw_at lw_m3 212 rfl) rfl
theorem q918 : (Jvm.Cond.code ({ cls := "CodeLayout$Shape", name := "isTextFix", desc := "(I)Z" } : Jvm.MethodName) prog_10_method_31_code (1 : Nat) (Option.some Jvm.ClassFile.FieldType.boolean)) ∈ lw_all := lw_g (lw_at lw_m3 213 rfl) rfl
theorem q919 : (Jvm.Cond.methodLink "CodeLayout$Shape" (237 : Nat) ({ cls := "CodeLayout$Shape", name := "fixPlace", desc := "(I)J" } : Jvm.MethodName)) ∈ lw_all := lw_g (lw_at lw_m3 214 rfl) rfl
theorem q920 : (Jvm.Cond.instanceMethod ({ cls := "CodeLayout$Shape", name := "fixPlace", desc := "(I)J" } : Jvm.MethodName)) ∈ lw_all := lw_g (lw_at lw_m3 215 rfl) rfl
theorem q921 : (Jvm.Cond.selects "CodeLayout$Shape" ({ cls := "CodeLayout$Shape", name := "fixPlace", desc := "(I)J" } : Jvm.MethodName) ({ cls := "CodeLayout$Shape", name := "fixPlace", desc := "(I)J" } : Jvm.MethodName)) ∈ lw_all := lw_g (lw_at lw_m3 216 rfl) rfl
theorem q922 : (Jvm.Cond.code ({ cls := "CodeLayout$Shape", name := "fixPlace", desc := "(I)J" } : Jvm.MethodName) prog_10_method_28_code (2 : Nat) (Option.some Jvm.ClassFile.FieldType.long)) ∈ lw_all := lw_g (lw_at lw_m3 217 rfl) rfl
theorem q923 : (Jvm.Cond.methodLink "CodeLayout$Shape" (221 : Nat) ({ cls := "CodeLayout$Shape", name := "fixSymbol", desc := "(I)I" } : Jvm.MethodName)) ∈ lw_all := lw_g (lw_at lw_m3 218 rfl) rfl
theorem q924 : (Jvm.Cond.instanceMethod ({ cls := "CodeLayout$Shape", name := "fixSymbol", desc := "(I)I" } : Jvm.MethodName)) ∈ lw_all := lw_g (lw_at lw_m3 219 rfl) rfl
theorem q925 : (Jvm.Cond.selects "CodeLayout$Shape" ({ cls := "CodeLayout$Shape", name := "fixSymbol", desc := "(I)I" } : Jvm.MethodName) ({ cls := "CodeLayout$Shape", name := "fixSymbol", desc := "(I)I" } : Jvm.MethodName)) ∈ lw_all := lw_g (lw_at lw_m3 220 rfl) rfl
theorem q926 : (Jvm.Cond.code ({ cls := "CodeLayout$Shape", name := "fixSymbol", desc := "(I)I" } : Jvm.MethodName) prog_10_method_29_code (2 : Nat) (Option.some Jvm.ClassFile.FieldType.int)) ∈ lw_all := lw_g (lw_at lw_m3 221 rfl) rfl
theorem q927 : (Jvm.Cond.methodLink "CodeLayout$Shape" (240 : Nat) ({ cls := "CodeLayout$Shape", name := "isNew", desc := "(J)Z" } : Jvm.MethodName)) ∈ lw_all := lw_g (lw_at lw_m3 222 rfl) rfl
theorem q929 : (Jvm.Cond.instanceMethod ({ cls := "CodeLayout$Shape", name := "isNew", desc := "(J)Z" } : Jvm.MethodName)) ∈ lw_all := lw_g (lw_at lw_m3 224 rfl) rfl
theorem q930 : (Jvm.Cond.code ({ cls := "CodeLayout$Shape", name := "isNew", desc := "(J)Z" } : Jvm.MethodName) prog_10_method_33_code (4 : Nat) (Option.some Jvm.ClassFile.FieldType.boolean)) ∈ lw_all := lw_g (lw_at lw_m3 225 rfl) rfl
theorem q931 : (Jvm.Cond.constantLong "CodeLayout$Shape" (243 : Nat) (40503 : Int64)) ∈ lw_all := lw_g (lw_at lw_m3 226 rfl) rfl
theorem q932 : (Jvm.Cond.constantLong "CodeLayout$Shape" (245 : Nat) (8191 : Int64)) ∈ lw_all := lw_g (lw_at lw_m3 227 rfl) rfl
theorem q933 : (Jvm.Cond.methodLink "CodeLayout$Program" (81 : Nat) ({ cls := "CodeLayout$Shape", name := "last", desc := "()I" } : Jvm.MethodName)) ∈ lw_all := lw_g (lw_at lw_m3 228 rfl) rfl
theorem q934 : (Jvm.Cond.methodLink "CodeLayout$Program" (127 : Nat) ({ cls := "CodeLayout$Program", name := "room", desc := "()V" } : Jvm.MethodName)) ∈ lw_all := lw_g (lw_at lw_m3 229 rfl) rfl
theorem q936 : (Jvm.Cond.instanceMethod ({ cls := "CodeLayout$Program", name := "room", desc := "()V" } : Jvm.MethodName)) ∈ lw_all := lw_g (lw_at lw_m3 231 rfl) rfl
theorem q937 : (Jvm.Cond.code ({ cls := "CodeLayout$Program", name := "room", desc := "()V" } : Jvm.MethodName) prog_8_method_10_code (1 : Nat) (Option.none : Option Jvm.ClassFile.FieldType)) ∈ lw_all := lw_g (lw_at lw_m3 232 rfl) rfl
theorem q938 : (Jvm.Cond.methodLink "CodeLayout$Program" (130 : Nat) ({ cls := "CodeLayout$Program", name := "placeOf", desc := "(I)I" } : Jvm.MethodName)) ∈ lw_all := lw_g (lw_at lw_m3 233 rfl) rfl
theorem q939 : (Jvm.Cond.instanceMethod ({ cls := "CodeLayout$Program", name := "placeOf", desc := "(I)I" } : Jvm.MethodName)) ∈ lw_all := lw_g (lw_at lw_m3 234 rfl) rfl
theorem q940 : (Jvm.Cond.selects "CodeLayout$Program" ({ cls := "CodeLayout$Program", name := "placeOf", desc := "(I)I" } : Jvm.MethodName) ({ cls := "CodeLayout$Program", name := "placeOf", desc := "(I)I" } : Jvm.MethodName)) ∈ lw_all := lw_g (lw_at lw_m3 235 rfl) rfl
theorem q941 : (Jvm.Cond.code ({ cls := "CodeLayout$Program", name := "placeOf", desc := "(I)I" } : Jvm.MethodName) prog_8_method_4_code (2 : Nat) (Option.some Jvm.ClassFile.FieldType.int)) ∈ lw_all := lw_g (lw_at lw_m3 236 rfl) rfl
theorem q942 : (Jvm.Cond.methodLink "CodeLayout$Program" (87 : Nat) ({ cls := "CodeLayout$Shape", name := "textOffset", desc := "()I" } : Jvm.MethodName)) ∈ lw_all := lw_g (lw_at lw_m3 237 rfl) rfl
theorem q943 : (Jvm.Cond.methodLink "CodeLayout$Program" (133 : Nat) ({ cls := "CodeLayout$Held", name := "word", desc := "(I)I" } : Jvm.MethodName)) ∈ lw_all := lw_g (lw_at lw_m3 238 rfl) rfl
theorem q944 : (Jvm.Cond.sameMethod "CodeLayout$Held" "CodeLayout$Source" "word" "(I)I") ∈ lw_all := lw_g (lw_at lw_m3 239 rfl) rfl
theorem q946 : (Jvm.Cond.selects "CodeLayout$Held" ({ cls := "CodeLayout$Held", name := "word", desc := "(I)I" } : Jvm.MethodName) ({ cls := "CodeLayout$Source", name := "word", desc := "(I)I" } : Jvm.MethodName)) ∈ lw_all := lw_g (lw_at lw_m4 1 rfl) rfl
theorem q947 : (Jvm.Cond.methodLink "CodeLayout$Program" (135 : Nat) ({ cls := "CodeLayout$Words", name := "kindOf", desc := "(I)I" } : Jvm.MethodName)) ∈ lw_all := lw_g (lw_at lw_m4 2 rfl) rfl
theorem q948 : (Jvm.Cond.static ({ cls := "CodeLayout$Words", name := "kindOf", desc := "(I)I" } : Jvm.MethodName)) ∈ lw_all := lw_g (lw_at lw_m4 3 rfl) rfl
theorem q949 : (Jvm.Cond.code ({ cls := "CodeLayout$Words", name := "kindOf", desc := "(I)I" } : Jvm.MethodName) prog_13_method_10_code (1 : Nat) (Option.some Jvm.ClassFile.FieldType.int)) ∈ lw_all := lw_g (lw_at lw_m4 4 rfl) rfl
theorem q950 : (Jvm.Cond.constant "CodeLayout$Words" (7 : Nat) (528482304 : Int32)) ∈ lw_all := lw_g (lw_at lw_m4 5 rfl) rfl
theorem q951 : (Jvm.Cond.constant "CodeLayout$Words" (8 : Nat) (285212672 : Int32)) ∈ lw_all := lw_g (lw_at lw_m4 6 rfl) rfl
theorem q952 : (Jvm.Cond.methodLink "CodeLayout$Words" (9 : Nat) ({ cls := "CodeLayout$Words", name := "is", desc := "(III)Z" } : Jvm.MethodName)) ∈ lw_all := lw_g (lw_at lw_m4 7 rfl) rfl
theorem q953 : (Jvm.Cond.static ({ cls := "CodeLayout$Words", name := "is", desc := "(III)Z" } : Jvm.MethodName)) ∈ lw_all := lw_g (lw_at lw_m4 8 rfl) rfl
theorem q954 : (Jvm.Cond.code ({ cls := "CodeLayout$Words", name := "is", desc := "(III)Z" } : Jvm.MethodName) prog_13_method_2_code (3 : Nat) (Option.some Jvm.ClassFile.FieldType.boolean)) ∈ lw_all := lw_g (lw_at lw_m4 9 rfl) rfl
theorem q955 : (Jvm.Cond.constant "CodeLayout$Words" (15 : Nat) (522190848 : Int32)) ∈ lw_all := lw_g (lw_at lw_m4 10 rfl) rfl
theorem q956 : (Jvm.Cond.constant "CodeLayout$Words" (16 : Nat) (184549376 : Int32)) ∈ lw_all := lw_g (lw_at lw_m4 11 rfl) rfl
theorem q957 : (Jvm.Cond.methodLink "CodeLayout$Words" (17 : Nat) ({ cls := "CodeLayout$Words", name := "fits", desc := "(I)Z" } : Jvm.MethodName)) ∈ lw_all := lw_g (lw_at lw_m4 12 rfl) rfl
theorem q958 : (Jvm.Cond.static ({ cls := "CodeLayout$Words", name := "fits", desc := "(I)Z" } : Jvm.MethodName)) ∈ lw_all := lw_g (lw_at lw_m4 13 rfl) rfl
theorem q959 : (Jvm.Cond.code ({ cls := "CodeLayout$Words", name := "fits", desc := "(I)Z" } : Jvm.MethodName) prog_13_method_12_code (1 : Nat) (Option.some Jvm.ClassFile.FieldType.boolean)) ∈ lw_all := lw_g (lw_at lw_m4 14 rfl) rfl
theorem q960 : (Jvm.Cond.methodLink "CodeLayout$Words" (24 : Nat) ({ cls := "CodeLayout$Words", name := "isLong", desc := "(I)Z" } : Jvm.MethodName)) ∈ lw_all := lw_g (lw_at lw_m4 15 rfl) rfl
theorem q961 : (Jvm.Cond.static ({ cls := "CodeLayout$Words", name := "isLong", desc := "(I)Z" } : Jvm.MethodName)) ∈ lw_all := lw_g (lw_at lw_m4 16 rfl) rfl
theorem q962 : (Jvm.Cond.code ({ cls := "CodeLayout$Words", name := "isLong", desc := "(I)Z" } : Jvm.MethodName) prog_13_method_3_code (1 : Nat) (Option.some Jvm.ClassFile.FieldType.boolean)) ∈ lw_all := lw_g (lw_at lw_m4 17 rfl) rfl
theorem q963 : (Jvm.Cond.methodLink "CodeLayout$Words" (32 : Nat) ({ cls := "CodeLayout$Words", name := "amount", desc := "(I)I" } : Jvm.MethodName)) ∈ lw_all := lw_g (lw_at lw_m4 18 rfl) rfl
theorem q964 : (Jvm.Cond.static ({ cls := "CodeLayout$Words", name := "amount", desc := "(I)I" } : Jvm.MethodName)) ∈ lw_all := lw_g (lw_at lw_m4 19 rfl) rfl
theorem q965 : (Jvm.Cond.code ({ cls := "CodeLayout$Words", name := "amount", desc := "(I)I" } : Jvm.MethodName) prog_13_method_9_code (1 : Nat) (Option.some Jvm.ClassFile.FieldType.int)) ∈ lw_all := lw_g (lw_at lw_m4 20 rfl) rfl
theorem q966 : (Jvm.Cond.constant "CodeLayout$Words" (21 : Nat) (520093696 : Int32)) ∈ lw_all := lw_g (lw_at lw_m4 21 rfl) rfl
theorem q967 : (Jvm.Cond.constant "CodeLayout$Words" (22 : Nat) (167772160 : Int32)) ∈ lw_all := lw_g (lw_at lw_m4 22 rfl) rfl
theorem q968 : (Jvm.Cond.constant "CodeLayout$Words" (23 : Nat) (310378496 : Int32)) ∈ lw_all := lw_g (lw_at lw_m4 23 rfl) rfl
theorem q969 : (Jvm.Cond.constant "CodeLayout$Words" (27 : Nat) (-1627389952 : Int32)) ∈ lw_all := lw_g (lw_at lw_m4 24 rfl) rfl
theorem q970 : (Jvm.Cond.constant "CodeLayout$Words" (28 : Nat) (-1879048192 : Int32)) ∈ lw_all := lw_g (lw_at lw_m4 25 rfl) rfl
theorem q971 : (Jvm.Cond.constant "CodeLayout$Words" (29 : Nat) (2145386496 : Int32)) ∈ lw_all := lw_g (lw_at lw_m4 26 rfl) rfl
theorem q972 : (Jvm.Cond.constant "CodeLayout$Words" (30 : Nat) (452984832 : Int32)) ∈ lw_all := lw_g (lw_at lw_m4 27 rfl) rfl
theorem q973 : (Jvm.Cond.constant "CodeLayout$Words" (31 : Nat) (448790528 : Int32)) ∈ lw_all := lw_g (lw_at lw_m4 28 rfl) rfl
theorem q974 : (Jvm.Cond.methodLink "CodeLayout$Words" (36 : Nat) ({ cls := "CodeLayout$Words", name := "isTwo", desc := "(I)Z" } : Jvm.MethodName)) ∈ lw_all := lw_g (lw_at lw_m4 29 rfl) rfl
theorem q975 : (Jvm.Cond.static ({ cls := "CodeLayout$Words", name := "isTwo", desc := "(I)Z" } : Jvm.MethodName)) ∈ lw_all := lw_g (lw_at lw_m4 30 rfl) rfl
theorem q976 : (Jvm.Cond.code ({ cls := "CodeLayout$Words", name := "isTwo", desc := "(I)Z" } : Jvm.MethodName) prog_13_method_13_code (1 : Nat) (Option.some Jvm.ClassFile.FieldType.boolean)) ∈ lw_all := lw_g (lw_at lw_m4 31 rfl) rfl
theorem q977 : (Jvm.Cond.constant "CodeLayout$Words" (39 : Nat) (2145388544 : Int32)) ∈ lw_all := lw_g (lw_at lw_m4 32 rfl) rfl
theorem q978 : (Jvm.Cond.constant "CodeLayout$Words" (40 : Nat) (444596224 : Int32)) ∈ lw_all := lw_g (lw_at lw_m4 33 rfl) rfl
theorem q979 : (Jvm.Cond.constant "CodeLayout$Words" (41 : Nat) (1056964608 : Int32)) ∈ lw_all := lw_g (lw_at lw_m4 34 rfl) rfl
theorem q980 : (Jvm.Cond.constant "CodeLayout$Words" (42 : Nat) (956301312 : Int32)) ∈ lw_all := lw_g (lw_at lw_m4 35 rfl) rfl
theorem q981 : (Jvm.Cond.methodLink "CodeLayout$Words" (43 : Nat) ({ cls := "CodeLayout$Words", name := "isSized", desc := "(I)Z" } : Jvm.MethodName)) ∈ lw_all := lw_g (lw_at lw_m4 36 rfl) rfl
theorem q982 : (Jvm.Cond.static ({ cls := "CodeLayout$Words", name := "isSized", desc := "(I)Z" } : Jvm.MethodName)) ∈ lw_all := lw_g (lw_at lw_m4 37 rfl) rfl
theorem q983 : (Jvm.Cond.code ({ cls := "CodeLayout$Words", name := "isSized", desc := "(I)Z" } : Jvm.MethodName) prog_13_method_14_code (3 : Nat) (Option.some Jvm.ClassFile.FieldType.boolean)) ∈ lw_all := lw_g (lw_at lw_m4 38 rfl) rfl
theorem q984 : (Jvm.Cond.constant "CodeLayout$Words" (46 : Nat) (1059122176 : Int32)) ∈ lw_all := lw_g (lw_at lw_m4 39 rfl) rfl
theorem q985 : (Jvm.Cond.constant "CodeLayout$Words" (47 : Nat) (941647872 : Int32)) ∈ lw_all := lw_g (lw_at lw_m4 40 rfl) rfl
theorem q986 : (Jvm.Cond.constant "CodeLayout$Words" (48 : Nat) (-33554432 : Int32)) ∈ lw_all := lw_g (lw_at lw_m4 41 rfl) rfl
theorem q987 : (Jvm.Cond.constant "CodeLayout$Words" (49 : Nat) (-1476395008 : Int32)) ∈ lw_all := lw_g (lw_at lw_m4 42 rfl) rfl
theorem q988 : (Jvm.Cond.methodLink "CodeLayout$Words" (50 : Nat) ({ cls := "CodeLayout$Words", name := "isPair", desc := "(I)Z" } : Jvm.MethodName)) ∈ lw_all := lw_g (lw_at lw_m4 43 rfl) rfl
theorem q989 : (Jvm.Cond.static ({ cls := "CodeLayout$Words", name := "isPair", desc := "(I)Z" } : Jvm.MethodName)) ∈ lw_all := lw_g (lw_at lw_m4 44 rfl) rfl
theorem q990 : (Jvm.Cond.code ({ cls := "CodeLayout$Words", name := "isPair", desc := "(I)Z" } : Jvm.MethodName) prog_13_method_15_code (3 : Nat) (Option.some Jvm.ClassFile.FieldType.boolean)) ∈ lw_all := lw_g (lw_at lw_m4 45 rfl) rfl
theorem q991 : (Jvm.Cond.methodLink "CodeLayout$Words" (70 : Nat) ({ cls := "CodeLayout$Words", name := "d", desc := "(I)I" } : Jvm.MethodName)) ∈ lw_all := lw_g (lw_at lw_m4 46 rfl) rfl
theorem q992 : (Jvm.Cond.static ({ cls := "CodeLayout$Words", name := "d", desc := "(I)I" } : Jvm.MethodName)) ∈ lw_all := lw_g (lw_at lw_m4 47 rfl) rfl
theorem q993 : (Jvm.Cond.code ({ cls := "CodeLayout$Words", name := "d", desc := "(I)I" } : Jvm.MethodName) prog_13_method_4_code (1 : Nat) (Option.some Jvm.ClassFile.FieldType.int)) ∈ lw_all := lw_g (lw_at lw_m4 48 rfl) rfl
theorem q994 : (Jvm.Cond.methodLink "CodeLayout$Words" (73 : Nat) ({ cls := "CodeLayout$Words", name := "a", desc := "(I)I" } : Jvm.MethodName)) ∈ lw_all := lw_g (lw_at lw_m4 49 rfl) rfl
theorem q995 : (Jvm.Cond.static ({ cls := "CodeLayout$Words", name := "a", desc := "(I)I" } : Jvm.MethodName)) ∈ lw_all := lw_g (lw_at lw_m4 50 rfl) rfl
theorem q996 : (Jvm.Cond.code ({ cls := "CodeLayout$Words", name := "a", desc := "(I)I" } : Jvm.MethodName) prog_13_method_7_code (1 : Nat) (Option.some Jvm.ClassFile.FieldType.int)) ∈ lw_all := lw_g (lw_at lw_m4 51 rfl) rfl
theorem q997 : (Jvm.Cond.methodLink "CodeLayout$Words" (76 : Nat) ({ cls := "CodeLayout$Words", name := "n", desc := "(I)I" } : Jvm.MethodName)) ∈ lw_all := lw_g (lw_at lw_m4 52 rfl) rfl
theorem q998 : (Jvm.Cond.static ({ cls := "CodeLayout$Words", name := "n", desc := "(I)I" } : Jvm.MethodName)) ∈ lw_all := lw_g (lw_at lw_m4 53 rfl) rfl
theorem q999 : (Jvm.Cond.code ({ cls := "CodeLayout$Words", name := "n", desc := "(I)I" } : Jvm.MethodName) prog_13_method_5_code (1 : Nat) (Option.some Jvm.ClassFile.FieldType.int)) ∈ lw_all := lw_g (lw_at lw_m4 54 rfl) rfl
theorem q1000 : (Jvm.Cond.methodLink "CodeLayout$Words" (53 : Nat) ({ cls := "CodeLayout$Words", name := "branch", desc := "(I)I" } : Jvm.MethodName)) ∈ lw_all := lw_g (lw_at lw_m4 55 rfl) rfl
theorem q1001 : (Jvm.Cond.static ({ cls := "CodeLayout$Words", name := "branch", desc := "(I)I" } : Jvm.MethodName)) ∈ lw_all := lw_g (lw_at lw_m4 56 rfl) rfl
theorem q1002 : (Jvm.Cond.code ({ cls := "CodeLayout$Words", name := "branch", desc := "(I)I" } : Jvm.MethodName) prog_13_method_11_code (1 : Nat) (Option.some Jvm.ClassFile.FieldType.int)) ∈ lw_all := lw_g (lw_at lw_m4 57 rfl) rfl
theorem q1003 : (Jvm.Cond.constant "CodeLayout$Words" (56 : Nat) (-67108864 : Int32)) ∈ lw_all := lw_g (lw_at lw_m4 58 rfl) rfl
theorem q1004 : (Jvm.Cond.constant "CodeLayout$Words" (57 : Nat) (335544320 : Int32)) ∈ lw_all := lw_g (lw_at lw_m4 59 rfl) rfl
theorem q1005 : (Jvm.Cond.constant "CodeLayout$Words" (58 : Nat) (-1811939328 : Int32)) ∈ lw_all := lw_g (lw_at lw_m4 60 rfl) rfl
theorem q1006 : (Jvm.Cond.constant "CodeLayout$Words" (59 : Nat) (-16777200 : Int32)) ∈ lw_all := lw_g (lw_at lw_m4 61 rfl) rfl
theorem q1007 : (Jvm.Cond.constant "CodeLayout$Words" (60 : Nat) (1409286144 : Int32)) ∈ lw_all := lw_g (lw_at lw_m4 62 rfl) rfl
theorem q1008 : (Jvm.Cond.constant "CodeLayout$Words" (61 : Nat) (2113929216 : Int32)) ∈ lw_all := lw_g (lw_at lw_m4 63 rfl) rfl
theorem q1009 : (Jvm.Cond.constant "CodeLayout$Words" (62 : Nat) (872415232 : Int32)) ∈ lw_all := lw_g (lw_at lw_m4 64 rfl) rfl
theorem q1010 : (Jvm.Cond.constant "CodeLayout$Words" (63 : Nat) (905969664 : Int32)) ∈ lw_all := lw_g (lw_at lw_m4 65 rfl) rfl
theorem q1011 : (Jvm.Cond.constant "CodeLayout$Words" (64 : Nat) (-702611456 : Int32)) ∈ lw_all := lw_g (lw_at lw_m4 66 rfl) rfl
theorem q1012 : (Jvm.Cond.constant "CodeLayout$Words" (65 : Nat) (-700514304 : Int32)) ∈ lw_all := lw_g (lw_at lw_m4 67 rfl) rfl
theorem q1013 : (Jvm.Cond.constant "CodeLayout$Words" (66 : Nat) (-698417152 : Int32)) ∈ lw_all := lw_g (lw_at lw_m4 68 rfl) rfl
theorem q1014 : (Jvm.Cond.constant "CodeLayout$Words" (67 : Nat) (-2097121 : Int32)) ∈ lw_all := lw_g (lw_at lw_m4 69 rfl) rfl
theorem q1015 : (Jvm.Cond.constant "CodeLayout$Words" (68 : Nat) (-738197503 : Int32)) ∈ lw_all := lw_g (lw_at lw_m4 70 rfl) rfl
theorem q1016 : (Jvm.Cond.constant "CodeLayout$Words" (69 : Nat) (-721215457 : Int32)) ∈ lw_all := lw_g (lw_at lw_m4 71 rfl) rfl
theorem q1017 : (Jvm.Cond.methodLink "CodeLayout$Program" (140 : Nat) ({ cls := "CodeLayout$Program", name := "tellFunctions", desc := "()V" } : Jvm.MethodName)) ∈ lw_all := lw_g (lw_at lw_m4 72 rfl) rfl
theorem q1019 : (Jvm.Cond.instanceMethod ({ cls := "CodeLayout$Program", name := "tellFunctions", desc := "()V" } : Jvm.MethodName)) ∈ lw_all := lw_g (lw_at lw_m4 74 rfl) rfl
theorem q1020 : (Jvm.Cond.code ({ cls := "CodeLayout$Program", name := "tellFunctions", desc := "()V" } : Jvm.MethodName) prog_8_method_13_code (10 : Nat) (Option.none : Option Jvm.ClassFile.FieldType)) ∈ lw_all := lw_g (lw_at lw_m4 75 rfl) rfl
theorem q1021 : (Jvm.Cond.methodLink "CodeLayout$Program" (172 : Nat) ({ cls := "CodeLayout$Shape", name := "symbolCount", desc := "()I" } : Jvm.MethodName)) ∈ lw_all := lw_g (lw_at lw_m4 76 rfl) rfl
theorem q1022 : (Jvm.Cond.methodLink "CodeLayout$Program" (175 : Nat) ({ cls := "CodeLayout$Shape", name := "isFunction", desc := "(I)Z" } : Jvm.MethodName)) ∈ lw_all := lw_g (lw_at lw_m4 77 rfl) rfl
theorem q1023 : (Jvm.Cond.instanceMethod ({ cls := "CodeLayout$Shape", name := "isFunction", desc := "(I)Z" } : Jvm.MethodName)) ∈ lw_all := lw_g (lw_at lw_m4 78 rfl) rfl
theorem q1024 : (Jvm.Cond.selects "CodeLayout$Shape" ({ cls := "CodeLayout$Shape", name := "isFunction", desc := "(I)Z" } : Jvm.MethodName) ({ cls := "CodeLayout$Shape", name := "isFunction", desc := "(I)Z" } : Jvm.MethodName)) ∈ lw_all := lw_g (lw_at lw_m4 79 rfl) rfl
theorem q1025 : (Jvm.Cond.code ({ cls := "CodeLayout$Shape", name := "isFunction", desc := "(I)Z" } : Jvm.MethodName) prog_10_method_21_code (2 : Nat) (Option.some Jvm.ClassFile.FieldType.boolean)) ∈ lw_all := lw_g (lw_at lw_m4 80 rfl) rfl
theorem q1026 : (Jvm.Cond.methodLink "CodeLayout$Program" (178 : Nat) ({ cls := "CodeLayout$Shape", name := "valueOf", desc := "(I)J" } : Jvm.MethodName)) ∈ lw_all := lw_g (lw_at lw_m4 81 rfl) rfl
theorem q1027 : (Jvm.Cond.methodLink "CodeLayout$Program" (182 : Nat) ({ cls := "CodeLayout$Shape", name := "symbolAt", desc := "(I)I" } : Jvm.MethodName)) ∈ lw_all := lw_g (lw_at lw_m4 82 rfl) rfl
theorem q1028 : (Jvm.Cond.methodLink "CodeLayout$Program" (185 : Nat) ({ cls := "CodeLayout$Held", name := "pair", desc := "(I)J" } : Jvm.MethodName)) ∈ lw_all := lw_g (lw_at lw_m4 83 rfl) rfl
theorem q1029 : (Jvm.Cond.sameMethod "CodeLayout$Held" "CodeLayout$Source" "pair" "(I)J") ∈ lw_all := lw_g (lw_at lw_m4 84 rfl) rfl
theorem q1031 : (Jvm.Cond.selects "CodeLayout$Held" ({ cls := "CodeLayout$Held", name := "pair", desc := "(I)J" } : Jvm.MethodName) ({ cls := "CodeLayout$Source", name := "pair", desc := "(I)J" } : Jvm.MethodName)) ∈ lw_all := lw_g (lw_at lw_m4 86 rfl) rfl
theorem q1032 : (Jvm.Cond.methodLink "CodeLayout$Program" (188 : Nat) ({ cls := "CodeLayout$Shape", name := "isText", desc := "(J)Z" } : Jvm.MethodName)) ∈ lw_all := lw_g (lw_at lw_m4 87 rfl) rfl
theorem q1033 : (Jvm.Cond.constantLong "CodeLayout$Program" (85 : Nat) (4 : Int64)) ∈ lw_all := lw_g (lw_at lw_m4 88 rfl) rfl
theorem q1034 : (Jvm.Cond.methodLink "CodeLayout$Program" (192 : Nat) ({ cls := "CodeLayout$Shape", name := "end", desc := "()J" } : Jvm.MethodName)) ∈ lw_all := lw_g (lw_at lw_m4 89 rfl) rfl
theorem q1035 : (Jvm.Cond.methodLink "CodeLayout$Program" (195 : Nat) ({ cls := "CodeLayout$Program", name := "wordAt", desc := "(J)I" } : Jvm.MethodName)) ∈ lw_all := lw_g (lw_at lw_m4 90 rfl) rfl
theorem q1036 : (Jvm.Cond.instanceMethod ({ cls := "CodeLayout$Program", name := "wordAt", desc := "(J)I" } : Jvm.MethodName)) ∈ lw_all := lw_g (lw_at lw_m4 91 rfl) rfl
theorem q1037 : (Jvm.Cond.selects "CodeLayout$Program" ({ cls := "CodeLayout$Program", name := "wordAt", desc := "(J)I" } : Jvm.MethodName) ({ cls := "CodeLayout$Program", name := "wordAt", desc := "(J)I" } : Jvm.MethodName)) ∈ lw_all := lw_g (lw_at lw_m4 92 rfl) rfl
theorem q1038 : (Jvm.Cond.code ({ cls := "CodeLayout$Program", name := "wordAt", desc := "(J)I" } : Jvm.MethodName) prog_8_method_3_code (3 : Nat) (Option.some Jvm.ClassFile.FieldType.int)) ∈ lw_all := lw_g (lw_at lw_m4 93 rfl) rfl
theorem q1039 : (Jvm.Cond.methodLink "CodeLayout$Program" (199 : Nat) ({ cls := "CodeLayout$Row", name := "add", desc := "(I)V" } : Jvm.MethodName)) ∈ lw_all := lw_g (lw_at lw_m4 94 rfl) rfl
theorem q1040 : (Jvm.Cond.instanceMethod ({ cls := "CodeLayout$Row", name := "add", desc := "(I)V" } : Jvm.MethodName)) ∈ lw_all := lw_g (lw_at lw_m4 95 rfl) rfl
theorem q1041 : (Jvm.Cond.selects "CodeLayout$Row" ({ cls := "CodeLayout$Row", name := "add", desc := "(I)V" } : Jvm.MethodName) ({ cls := "CodeLayout$Row", name := "add", desc := "(I)V" } : Jvm.MethodName)) ∈ lw_all := lw_g (lw_at lw_m4 96 rfl) rfl
theorem q1042 : (Jvm.Cond.code ({ cls := "CodeLayout$Row", name := "add", desc := "(I)V" } : Jvm.MethodName) prog_9_method_2_code (3 : Nat) (Option.none : Option Jvm.ClassFile.FieldType)) ∈ lw_all := lw_g (lw_at lw_m4 97 rfl) rfl
theorem q1043 : (Jvm.Cond.methodLink "CodeLayout$Row" (17 : Nat) ({ cls := "java/lang/System", name := "arraycopy", desc := "(Ljava/lang/Object;ILjava/lang/Object;II)V" } : Jvm.MethodName)) ∈ lw_all := lw_g (lw_at lw_m4 98 rfl) rfl
theorem q1044 : (Jvm.Cond.methodLink "CodeLayout$Program" (143 : Nat) ({ cls := "CodeLayout$Trouble", name := "must", desc := "(ZII)V" } : Jvm.MethodName)) ∈ lw_all := lw_g (lw_at lw_m4 99 rfl) rfl
theorem q1045 : (Jvm.Cond.methodLink "CodeLayout$Program" (169 : Nat) ({ cls := "CodeLayout$Program", name := "behind", desc := "(I)I" } : Jvm.MethodName)) ∈ lw_all := lw_g (lw_at lw_m4 100 rfl) rfl
theorem q1046 : (Jvm.Cond.instanceMethod ({ cls := "CodeLayout$Program", name := "behind", desc := "(I)I" } : Jvm.MethodName)) ∈ lw_all := lw_g (lw_at lw_m4 101 rfl) rfl
theorem q1047 : (Jvm.Cond.selects "CodeLayout$Program" ({ cls := "CodeLayout$Program", name := "behind", desc := "(I)I" } : Jvm.MethodName) ({ cls := "CodeLayout$Program", name := "behind", desc := "(I)I" } : Jvm.MethodName)) ∈ lw_all := lw_g (lw_at lw_m4 102 rfl) rfl
theorem q1048 : (Jvm.Cond.code ({ cls := "CodeLayout$Program", name := "behind", desc := "(I)I" } : Jvm.MethodName) prog_8_method_11_code (2 : Nat) (Option.some Jvm.ClassFile.FieldType.int)) ∈ lw_all := lw_g (lw_at lw_m4 103 rfl) rfl
theorem q1049 : (Jvm.Cond.methodLink "CodeLayout$Program" (147 : Nat) ({ cls := "CodeLayout$Program", name := "lookFixes", desc := "()V" } : Jvm.MethodName)) ∈ lw_all := lw_g (lw_at lw_m4 104 rfl) rfl
theorem q1051 : (Jvm.Cond.instanceMethod ({ cls := "CodeLayout$Program", name := "lookFixes", desc := "()V" } : Jvm.MethodName)) ∈ lw_all := lw_g (lw_at lw_m4 106 rfl) rfl
theorem q1052 : (Jvm.Cond.code ({ cls := "CodeLayout$Program", name := "lookFixes", desc := "()V" } : Jvm.MethodName) prog_8_method_14_code (4 : Nat) (Option.none : Option Jvm.ClassFile.FieldType)) ∈ lw_all := lw_g (lw_at lw_m4 107 rfl) rfl
theorem q1053 : (Jvm.Cond.methodLink "CodeLayout$Program" (106 : Nat) ({ cls := "CodeLayout$Shape", name := "fixCount", desc := "(I)I" } : Jvm.MethodName)) ∈ lw_all := lw_g (lw_at lw_m4 108 rfl) rfl
theorem q1054 : (Jvm.Cond.methodLink "CodeLayout$Program" (110 : Nat) ({ cls := "CodeLayout$Shape", name := "fixAt", desc := "(II)I" } : Jvm.MethodName)) ∈ lw_all := lw_g (lw_at lw_m4 109 rfl) rfl
theorem q1055 : (Jvm.Cond.methodLink "CodeLayout$Program" (114 : Nat) ({ cls := "CodeLayout$Shape", name := "fixType", desc := "(I)I" } : Jvm.MethodName)) ∈ lw_all := lw_g (lw_at lw_m4 110 rfl) rfl
theorem q1056 : (Jvm.Cond.methodLink "CodeLayout$Program" (206 : Nat) ({ cls := "CodeLayout$Program", name := "isTold", desc := "(II)Z" } : Jvm.MethodName)) ∈ lw_all := lw_g (lw_at lw_m4 111 rfl) rfl
theorem q1058 : (Jvm.Cond.instanceMethod ({ cls := "CodeLayout$Program", name := "isTold", desc := "(II)Z" } : Jvm.MethodName)) ∈ lw_all := lw_g (lw_at lw_m4 113 rfl) rfl
theorem q1059 : (Jvm.Cond.code ({ cls := "CodeLayout$Program", name := "isTold", desc := "(II)Z" } : Jvm.MethodName) prog_8_method_15_code (11 : Nat) (Option.some Jvm.ClassFile.FieldType.boolean)) ∈ lw_all := lw_g (lw_at lw_m4 114 rfl) rfl
theorem q1060 : (Jvm.Cond.methodLink "CodeLayout$Program" (210 : Nat) ({ cls := "CodeLayout$Shape", name := "target", desc := "(I)J" } : Jvm.MethodName)) ∈ lw_all := lw_g (lw_at lw_m4 115 rfl) rfl
theorem q1061 : (Jvm.Cond.instanceMethod ({ cls := "CodeLayout$Shape", name := "target", desc := "(I)J" } : Jvm.MethodName)) ∈ lw_all := lw_g (lw_at lw_m4 116 rfl) rfl
theorem q1062 : (Jvm.Cond.selects "CodeLayout$Shape" ({ cls := "CodeLayout$Shape", name := "target", desc := "(I)J" } : Jvm.MethodName) ({ cls := "CodeLayout$Shape", name := "target", desc := "(I)J" } : Jvm.MethodName)) ∈ lw_all := lw_g (lw_at lw_m4 117 rfl) rfl
theorem q1063 : (Jvm.Cond.code ({ cls := "CodeLayout$Shape", name := "target", desc := "(I)J" } : Jvm.MethodName) prog_10_method_30_code (2 : Nat) (Option.some Jvm.ClassFile.FieldType.long)) ∈ lw_all := lw_g (lw_at lw_m4 118 rfl) rfl
theorem q1064 : (Jvm.Cond.methodLink "CodeLayout$Program" (213 : Nat) ({ cls := "CodeLayout$Shape", name := "fixPlace", desc := "(I)J" } : Jvm.MethodName)) ∈ lw_all := lw_g (lw_at lw_m4 119 rfl) rfl
theorem q1065 : (Jvm.Cond.constantLong "CodeLayout$Program" (222 : Nat) (2147483648 : Int64)) ∈ lw_all := lw_g (lw_at lw_m4 120 rfl) rfl
theorem q1066 : (Jvm.Cond.methodLink "CodeLayout$Program" (224 : Nat) ({ cls := "CodeLayout$Words", name := "pageOf", desc := "(J)J" } : Jvm.MethodName)) ∈ lw_all := lw_g (lw_at lw_m4 121 rfl) rfl
theorem q1067 : (Jvm.Cond.static ({ cls := "CodeLayout$Words", name := "pageOf", desc := "(J)J" } : Jvm.MethodName)) ∈ lw_all := lw_g (lw_at lw_m4 122 rfl) rfl
theorem q1068 : (Jvm.Cond.code ({ cls := "CodeLayout$Words", name := "pageOf", desc := "(J)J" } : Jvm.MethodName) prog_13_method_27_code (2 : Nat) (Option.some Jvm.ClassFile.FieldType.long)) ∈ lw_all := lw_g (lw_at lw_m4 123 rfl) rfl
theorem q1069 : (Jvm.Cond.constantLong "CodeLayout$Words" (95 : Nat) (-4096 : Int64)) ∈ lw_all := lw_g (lw_at lw_m4 124 rfl) rfl
theorem q1070 : (Jvm.Cond.methodLink "CodeLayout$Program" (228 : Nat) ({ cls := "CodeLayout$Words", name := "pageBy", desc := "(I)J" } : Jvm.MethodName)) ∈ lw_all := lw_g (lw_at lw_m4 125 rfl) rfl
theorem q1071 : (Jvm.Cond.static ({ cls := "CodeLayout$Words", name := "pageBy", desc := "(I)J" } : Jvm.MethodName)) ∈ lw_all := lw_g (lw_at lw_m4 126 rfl) rfl
theorem q1072 : (Jvm.Cond.code ({ cls := "CodeLayout$Words", name := "pageBy", desc := "(I)J" } : Jvm.MethodName) prog_13_method_26_code (1 : Nat) (Option.some Jvm.ClassFile.FieldType.long)) ∈ lw_all := lw_g (lw_at lw_m4 127 rfl) rfl
theorem q1073 : (Jvm.Cond.constant "CodeLayout$Words" (94 : Nat) (524287 : Int32)) ∈ lw_all := lw_g (lw_at lw_m4 128 rfl) rfl
theorem q1074 : (Jvm.Cond.methodLink "CodeLayout$Words" (85 : Nat) ({ cls := "CodeLayout$Words", name := "signed", desc := "(II)I" } : Jvm.MethodName)) ∈ lw_all := lw_g (lw_at lw_m4 129 rfl) rfl
theorem q1075 : (Jvm.Cond.static ({ cls := "CodeLayout$Words", name := "signed", desc := "(II)I" } : Jvm.MethodName)) ∈ lw_all := lw_g (lw_at lw_m4 130 rfl) rfl
theorem q1076 : (Jvm.Cond.code ({ cls := "CodeLayout$Words", name := "signed", desc := "(II)I" } : Jvm.MethodName) prog_13_method_17_code (2 : Nat) (Option.some Jvm.ClassFile.FieldType.int)) ∈ lw_all := lw_g (lw_at lw_m4 131 rfl) rfl
theorem q1077 : (Jvm.Cond.methodLink "CodeLayout$Program" (231 : Nat) ({ cls := "CodeLayout$Words", name := "isPlainAdd", desc := "(I)Z" } : Jvm.MethodName)) ∈ lw_all := lw_g (lw_at lw_m4 132 rfl) rfl
theorem q1078 : (Jvm.Cond.static ({ cls := "CodeLayout$Words", name := "isPlainAdd", desc := "(I)Z" } : Jvm.MethodName)) ∈ lw_all := lw_g (lw_at lw_m4 133 rfl) rfl
theorem q1079 : (Jvm.Cond.code ({ cls := "CodeLayout$Words", name := "isPlainAdd", desc := "(I)Z" } : Jvm.MethodName) prog_13_method_29_code (1 : Nat) (Option.some Jvm.ClassFile.FieldType.boolean)) ∈ lw_all := lw_g (lw_at lw_m4 134 rfl) rfl
theorem q1080 : (Jvm.Cond.methodLink "CodeLayout$Words" (102 : Nat) ({ cls := "CodeLayout$Words", name := "kindOf", desc := "(I)I" } : Jvm.MethodName)) ∈ lw_all := lw_g (lw_at lw_m4 135 rfl) rfl
theorem q1081 : (Jvm.Cond.methodLink "CodeLayout$Program" (234 : Nat) ({ cls := "CodeLayout$Words", name := "twelve", desc := "(I)I" } : Jvm.MethodName)) ∈ lw_all := lw_g (lw_at lw_m4 136 rfl) rfl
theorem q1082 : (Jvm.Cond.static ({ cls := "CodeLayout$Words", name := "twelve", desc := "(I)I" } : Jvm.MethodName)) ∈ lw_all := lw_g (lw_at lw_m4 137 rfl) rfl
theorem q1083 : (Jvm.Cond.code ({ cls := "CodeLayout$Words", name := "twelve", desc := "(I)I" } : Jvm.MethodName) prog_13_method_8_code (1 : Nat) (Option.some Jvm.ClassFile.FieldType.int)) ∈ lw_all := lw_g (lw_at lw_m4 138 rfl) rfl
theorem q1084 : (Jvm.Cond.constantLong "CodeLayout$Program" (237 : Nat) (4095 : Int64)) ∈ lw_all := lw_g (lw_at lw_m4 139 rfl) rfl
theorem q1085 : (Jvm.Cond.methodLink "CodeLayout$Program" (239 : Nat) ({ cls := "CodeLayout$Words", name := "by", desc := "(II)I" } : Jvm.MethodName)) ∈ lw_all := lw_g (lw_at lw_m4 140 rfl) rfl
theorem q1086 : (Jvm.Cond.static ({ cls := "CodeLayout$Words", name := "by", desc := "(II)I" } : Jvm.MethodName)) ∈ lw_all := lw_g (lw_at lw_m4 141 rfl) rfl
theorem q1087 : (Jvm.Cond.code ({ cls := "CodeLayout$Words", name := "by", desc := "(II)I" } : Jvm.MethodName) prog_13_method_22_code (3 : Nat) (Option.some Jvm.ClassFile.FieldType.int)) ∈ lw_all := lw_g (lw_at lw_m4 142 rfl) rfl
theorem q1088 : (Jvm.Cond.methodLink "CodeLayout$Words" (82 : Nat) ({ cls := "CodeLayout$Words", name := "bitsOf", desc := "(I)I" } : Jvm.MethodName)) ∈ lw_all := lw_g (lw_at lw_m4 143 rfl) rfl
theorem q1089 : (Jvm.Cond.static ({ cls := "CodeLayout$Words", name := "bitsOf", desc := "(I)I" } : Jvm.MethodName)) ∈ lw_all := lw_g (lw_at lw_m4 144 rfl) rfl
theorem q1090 : (Jvm.Cond.code ({ cls := "CodeLayout$Words", name := "bitsOf", desc := "(I)I" } : Jvm.MethodName) prog_13_method_21_code (1 : Nat) (Option.some Jvm.ClassFile.FieldType.int)) ∈ lw_all := lw_g (lw_at lw_m4 145 rfl) rfl
theorem q1091 : (Jvm.Cond.methodLink "CodeLayout$Program" (242 : Nat) ({ cls := "CodeLayout$Words", name := "bytesOf", desc := "(I)I" } : Jvm.MethodName)) ∈ lw_all := lw_g (lw_at lw_m4 146 rfl) rfl
theorem q1092 : (Jvm.Cond.static ({ cls := "CodeLayout$Words", name := "bytesOf", desc := "(I)I" } : Jvm.MethodName)) ∈ lw_all := lw_g (lw_at lw_m4 147 rfl) rfl
theorem q1093 : (Jvm.Cond.code ({ cls := "CodeLayout$Words", name := "bytesOf", desc := "(I)I" } : Jvm.MethodName) prog_13_method_16_code (1 : Nat) (Option.some Jvm.ClassFile.FieldType.int)) ∈ lw_all := lw_g (lw_at lw_m4 148 rfl) rfl
theorem q1094 : (Jvm.Cond.methodLink "CodeLayout$Program" (150 : Nat) ({ cls := "CodeLayout$Words", name := "goes", desc := "(I)Z" } : Jvm.MethodName)) ∈ lw_all := lw_g (lw_at lw_m4 149 rfl) rfl
theorem q1095 : (Jvm.Cond.static ({ cls := "CodeLayout$Words", name := "goes", desc := "(I)Z" } : Jvm.MethodName)) ∈ lw_all := lw_g (lw_at lw_m4 150 rfl) rfl
theorem q1096 : (Jvm.Cond.code ({ cls := "CodeLayout$Words", name := "goes", desc := "(I)Z" } : Jvm.MethodName) prog_13_method_18_code (1 : Nat) (Option.some Jvm.ClassFile.FieldType.boolean)) ∈ lw_all := lw_g (lw_at lw_m4 151 rfl) rfl
theorem q1097 : (Jvm.Cond.methodLink "CodeLayout$Words" (79 : Nat) ({ cls := "CodeLayout$Words", name := "isBranch", desc := "(I)Z" } : Jvm.MethodName)) ∈ lw_all := lw_g (lw_at lw_m4 152 rfl) rfl
theorem q1098 : (Jvm.Cond.static ({ cls := "CodeLayout$Words", name := "isBranch", desc := "(I)Z" } : Jvm.MethodName)) ∈ lw_all := lw_g (lw_at lw_m4 153 rfl) rfl
theorem q1099 : (Jvm.Cond.code ({ cls := "CodeLayout$Words", name := "isBranch", desc := "(I)Z" } : Jvm.MethodName) prog_13_method_19_code (1 : Nat) (Option.some Jvm.ClassFile.FieldType.boolean)) ∈ lw_all := lw_g (lw_at lw_m4 154 rfl) rfl
theorem q1100 : (Jvm.Cond.methodLink "CodeLayout$Program" (154 : Nat) ({ cls := "CodeLayout$Program", name := "isGood", desc := "(I)Z" } : Jvm.MethodName)) ∈ lw_all := lw_g (lw_at lw_m4 155 rfl) rfl
theorem q1102 : (Jvm.Cond.instanceMethod ({ cls := "CodeLayout$Program", name := "isGood", desc := "(I)Z" } : Jvm.MethodName)) ∈ lw_all := lw_g (lw_at lw_m4 157 rfl) rfl
theorem q1103 : (Jvm.Cond.code ({ cls := "CodeLayout$Program", name := "isGood", desc := "(I)Z" } : Jvm.MethodName) prog_8_method_17_code (4 : Nat) (Option.some Jvm.ClassFile.FieldType.boolean)) ∈ lw_all := lw_g (lw_at lw_m4 158 rfl) rfl
theorem q1104 : (Jvm.Cond.methodLink "CodeLayout$Program" (245 : Nat) ({ cls := "CodeLayout$Program", name := "goal", desc := "(I)I" } : Jvm.MethodName)) ∈ lw_all := lw_g (lw_at lw_m4 159 rfl) rfl
theorem q1105 : (Jvm.Cond.instanceMethod ({ cls := "CodeLayout$Program", name := "goal", desc := "(I)I" } : Jvm.MethodName)) ∈ lw_all := lw_g (lw_at lw_m4 160 rfl) rfl
theorem q1106 : (Jvm.Cond.selects "CodeLayout$Program" ({ cls := "CodeLayout$Program", name := "goal", desc := "(I)I" } : Jvm.MethodName) ({ cls := "CodeLayout$Program", name := "goal", desc := "(I)I" } : Jvm.MethodName)) ∈ lw_all := lw_g (lw_at lw_m4 161 rfl) rfl
theorem q1107 : (Jvm.Cond.code ({ cls := "CodeLayout$Program", name := "goal", desc := "(I)I" } : Jvm.MethodName) prog_8_method_16_code (4 : Nat) (Option.some Jvm.ClassFile.FieldType.int)) ∈ lw_all := lw_g (lw_at lw_m4 162 rfl) rfl
theorem q1108 : (Jvm.Cond.methodLink "CodeLayout$Program" (157 : Nat) ({ cls := "CodeLayout$Program", name := "lastOf", desc := "(I)I" } : Jvm.MethodName)) ∈ lw_all := lw_g (lw_at lw_m4 163 rfl) rfl
theorem q1110 : (Jvm.Cond.instanceMethod ({ cls := "CodeLayout$Program", name := "lastOf", desc := "(I)I" } : Jvm.MethodName)) ∈ lw_all := lw_g (lw_at lw_m4 165 rfl) rfl
theorem q1111 : (Jvm.Cond.code ({ cls := "CodeLayout$Program", name := "lastOf", desc := "(I)I" } : Jvm.MethodName) prog_8_method_12_code (2 : Nat) (Option.some Jvm.ClassFile.FieldType.int)) ∈ lw_all := lw_g (lw_at lw_m4 166 rfl) rfl
theorem q1112 : (Jvm.Cond.methodLink "CodeLayout$Program" (160 : Nat) ({ cls := "CodeLayout$Program", name := "leaders", desc := "()V" } : Jvm.MethodName)) ∈ lw_all := lw_g (lw_at lw_m4 167 rfl) rfl
theorem q1114 : (Jvm.Cond.instanceMethod ({ cls := "CodeLayout$Program", name := "leaders", desc := "()V" } : Jvm.MethodName)) ∈ lw_all := lw_g (lw_at lw_m4 169 rfl) rfl
theorem q1115 : (Jvm.Cond.code ({ cls := "CodeLayout$Program", name := "leaders", desc := "()V" } : Jvm.MethodName) prog_8_method_19_code (5 : Nat) (Option.none : Option Jvm.ClassFile.FieldType)) ∈ lw_all := lw_g (lw_at lw_m4 170 rfl) rfl
theorem q1116 : (Jvm.Cond.methodLink "CodeLayout$Program" (252 : Nat) ({ cls := "CodeLayout$Words", name := "isBranch", desc := "(I)Z" } : Jvm.MethodName)) ∈ lw_all := lw_g (lw_at lw_m4 171 rfl) rfl
theorem q1117 : (Jvm.Cond.methodLink "CodeLayout$Program" (255 : Nat) ({ cls := "CodeLayout$Words", name := "ends", desc := "(I)Z" } : Jvm.MethodName)) ∈ lw_all := lw_g (lw_at lw_m4 172 rfl) rfl
theorem q1118 : (Jvm.Cond.static ({ cls := "CodeLayout$Words", name := "ends", desc := "(I)Z" } : Jvm.MethodName)) ∈ lw_all := lw_g (lw_at lw_m4 173 rfl) rfl
theorem q1119 : (Jvm.Cond.code ({ cls := "CodeLayout$Words", name := "ends", desc := "(I)Z" } : Jvm.MethodName) prog_13_method_20_code (1 : Nat) (Option.some Jvm.ClassFile.FieldType.boolean)) ∈ lw_all := lw_g (lw_at lw_m4 174 rfl) rfl
theorem q1120 : (Jvm.Cond.methodLink "CodeLayout$Program" (258 : Nat) ({ cls := "CodeLayout$Program", name := "targetWord", desc := "(I)I" } : Jvm.MethodName)) ∈ lw_all := lw_g (lw_at lw_m4 175 rfl) rfl
theorem q1121 : (Jvm.Cond.instanceMethod ({ cls := "CodeLayout$Program", name := "targetWord", desc := "(I)I" } : Jvm.MethodName)) ∈ lw_all := lw_g (lw_at lw_m4 176 rfl) rfl
theorem q1122 : (Jvm.Cond.selects "CodeLayout$Program" ({ cls := "CodeLayout$Program", name := "targetWord", desc := "(I)I" } : Jvm.MethodName) ({ cls := "CodeLayout$Program", name := "targetWord", desc := "(I)I" } : Jvm.MethodName)) ∈ lw_all := lw_g (lw_at lw_m4 177 rfl) rfl
theorem q1123 : (Jvm.Cond.code ({ cls := "CodeLayout$Program", name := "targetWord", desc := "(I)I" } : Jvm.MethodName) prog_8_method_18_code (2 : Nat) (Option.some Jvm.ClassFile.FieldType.int)) ∈ lw_all := lw_g (lw_at lw_m4 178 rfl) rfl
theorem q1124 : (Jvm.Cond.methodLink "CodeLayout$Program" (163 : Nat) ({ cls := "CodeLayout$Program", name := "tellBlocks", desc := "()V" } : Jvm.MethodName)) ∈ lw_all := lw_g (lw_at lw_m4 179 rfl) rfl
theorem q1126 : (Jvm.Cond.instanceMethod ({ cls := "CodeLayout$Program", name := "tellBlocks", desc := "()V" } : Jvm.MethodName)) ∈ lw_all := lw_g (lw_at lw_m4 181 rfl) rfl
theorem q1127 : (Jvm.Cond.code ({ cls := "CodeLayout$Program", name := "tellBlocks", desc := "()V" } : Jvm.MethodName) prog_8_method_20_code (5 : Nat) (Option.none : Option Jvm.ClassFile.FieldType)) ∈ lw_all := lw_g (lw_at lw_m4 182 rfl) rfl
theorem q1128 : (Jvm.Cond.methodLink "CodeLayout$Program" (264 : Nat) ({ cls := "CodeLayout$Program", name := "lastWord", desc := "(I)I" } : Jvm.MethodName)) ∈ lw_all := lw_g (lw_at lw_m4 183 rfl) rfl
theorem q1129 : (Jvm.Cond.instanceMethod ({ cls := "CodeLayout$Program", name := "lastWord", desc := "(I)I" } : Jvm.MethodName)) ∈ lw_all := lw_g (lw_at lw_m4 184 rfl) rfl
theorem q1130 : (Jvm.Cond.selects "CodeLayout$Program" ({ cls := "CodeLayout$Program", name := "lastWord", desc := "(I)I" } : Jvm.MethodName) ({ cls := "CodeLayout$Program", name := "lastWord", desc := "(I)I" } : Jvm.MethodName)) ∈ lw_all := lw_g (lw_at lw_m4 185 rfl) rfl
theorem q1131 : (Jvm.Cond.code ({ cls := "CodeLayout$Program", name := "lastWord", desc := "(I)I" } : Jvm.MethodName) prog_8_method_22_code (2 : Nat) (Option.some Jvm.ClassFile.FieldType.int)) ∈ lw_all := lw_g (lw_at lw_m4 186 rfl) rfl
theorem q1132 : (Jvm.Cond.methodLink "CodeLayout$Program" (270 : Nat) ({ cls := "CodeLayout$Program", name := "wordsOf", desc := "(I)I" } : Jvm.MethodName)) ∈ lw_all := lw_g (lw_at lw_m4 187 rfl) rfl
theorem q1133 : (Jvm.Cond.instanceMethod ({ cls := "CodeLayout$Program", name := "wordsOf", desc := "(I)I" } : Jvm.MethodName)) ∈ lw_all := lw_g (lw_at lw_m4 188 rfl) rfl
theorem q1134 : (Jvm.Cond.selects "CodeLayout$Program" ({ cls := "CodeLayout$Program", name := "wordsOf", desc := "(I)I" } : Jvm.MethodName) ({ cls := "CodeLayout$Program", name := "wordsOf", desc := "(I)I" } : Jvm.MethodName)) ∈ lw_all := lw_g (lw_at lw_m4 189 rfl) rfl
theorem q1135 : (Jvm.Cond.code ({ cls := "CodeLayout$Program", name := "wordsOf", desc := "(I)I" } : Jvm.MethodName) prog_8_method_21_code (2 : Nat) (Option.some Jvm.ClassFile.FieldType.int)) ∈ lw_all := lw_g (lw_at lw_m4 190 rfl) rfl
theorem q1136 : (Jvm.Cond.methodLink "CodeLayout$Program" (267 : Nat) ({ cls := "CodeLayout$Shape", name := "isData", desc := "(I)Z" } : Jvm.MethodName)) ∈ lw_all := lw_g (lw_at lw_m4 191 rfl) rfl
theorem q1137 : (Jvm.Cond.methodLink "CodeLayout" (122 : Nat) ({ cls := "CodeLayout$Program", name := "place", desc := "()I" } : Jvm.MethodName)) ∈ lw_all := lw_g (lw_at lw_m4 192 rfl) rfl
theorem q1138 : (Jvm.Cond.instanceMethod ({ cls := "CodeLayout$Program", name := "place", desc := "()I" } : Jvm.MethodName)) ∈ lw_all := lw_g (lw_at lw_m4 193 rfl) rfl
theorem q1139 : (Jvm.Cond.selects "CodeLayout$Program" ({ cls := "CodeLayout$Program", name := "place", desc := "()I" } : Jvm.MethodName) ({ cls := "CodeLayout$Program", name := "place", desc := "()I" } : Jvm.MethodName)) ∈ lw_all := lw_g (lw_at lw_m4 194 rfl) rfl
theorem q1140 : (Jvm.Cond.code ({ cls := "CodeLayout$Program", name := "place", desc := "()I" } : Jvm.MethodName) prog_8_method_6_code (1 : Nat) (Option.some Jvm.ClassFile.FieldType.int)) ∈ lw_all := lw_g (lw_at lw_m4 195 rfl) rfl
theorem q1141 : (Jvm.Cond.methodLink "CodeLayout" (125 : Nat) ({ cls := "CodeLayout$Program", name := "rule", desc := "()I" } : Jvm.MethodName)) ∈ lw_all := lw_g (lw_at lw_m4 196 rfl) rfl
theorem q1142 : (Jvm.Cond.instanceMethod ({ cls := "CodeLayout$Program", name := "rule", desc := "()I" } : Jvm.MethodName)) ∈ lw_all := lw_g (lw_at lw_m4 197 rfl) rfl
theorem q1143 : (Jvm.Cond.selects "CodeLayout$Program" ({ cls := "CodeLayout$Program", name := "rule", desc := "()I" } : Jvm.MethodName) ({ cls := "CodeLayout$Program", name := "rule", desc := "()I" } : Jvm.MethodName)) ∈ lw_all := lw_g (lw_at lw_m4 198 rfl) rfl
theorem q1144 : (Jvm.Cond.code ({ cls := "CodeLayout$Program", name := "rule", desc := "()I" } : Jvm.MethodName) prog_8_method_7_code (1 : Nat) (Option.some Jvm.ClassFile.FieldType.int)) ∈ lw_all := lw_g (lw_at lw_m4 199 rfl) rfl
theorem q1145 : (Jvm.Cond.methodLink "CodeLayout" (135 : Nat) ({ cls := "CodeLayout$Counts", name := "clear", desc := "()V" } : Jvm.MethodName)) ∈ lw_all := lw_g (lw_at lw_m4 200 rfl) rfl
theorem q1146 : (Jvm.Cond.instanceMethod ({ cls := "CodeLayout$Counts", name := "clear", desc := "()V" } : Jvm.MethodName)) ∈ lw_all := lw_g (lw_at lw_m4 201 rfl) rfl
theorem q1147 : (Jvm.Cond.selects "CodeLayout$Counts" ({ cls := "CodeLayout$Counts", name := "clear", desc := "()V" } : Jvm.MethodName) ({ cls := "CodeLayout$Counts", name := "clear", desc := "()V" } : Jvm.MethodName)) ∈ lw_all := lw_g (lw_at lw_m4 202 rfl) rfl
theorem q1148 : (Jvm.Cond.code ({ cls := "CodeLayout$Counts", name := "clear", desc := "()V" } : Jvm.MethodName) prog_2_method_2_code (2 : Nat) (Option.none : Option Jvm.ClassFile.FieldType)) ∈ lw_all := lw_g (lw_at lw_m4 203 rfl) rfl
theorem q1149 : (Jvm.Cond.methodLink "CodeLayout" (141 : Nat) ({ cls := "CodeLayout", name := "begin", desc := "()V" } : Jvm.MethodName)) ∈ lw_all := lw_g (lw_at lw_m4 204 rfl) rfl
theorem q1151 : (Jvm.Cond.instanceMethod ({ cls := "CodeLayout", name := "begin", desc := "()V" } : Jvm.MethodName)) ∈ lw_all := lw_g (lw_at lw_m4 206 rfl) rfl
theorem q1152 : (Jvm.Cond.code ({ cls := "CodeLayout", name := "begin", desc := "()V" } : Jvm.MethodName) prog_1_method_8_code (5 : Nat) (Option.none : Option Jvm.ClassFile.FieldType)) ∈ lw_all := lw_g (lw_at lw_m4 207 rfl) rfl
theorem q1153 : (Jvm.Cond.methodLink "CodeLayout" (150 : Nat) ({ cls := "java/util/ArrayList", name := "size", desc := "()I" } : Jvm.MethodName)) ∈ lw_all := lw_g (lw_at lw_m4 208 rfl) rfl
theorem q1154 : (Jvm.Cond.instanceMethod ({ cls := "java/util/ArrayList", name := "size", desc := "()I" } : Jvm.MethodName)) ∈ lw_all := lw_g (lw_at lw_m4 209 rfl) rfl
theorem q1155 : (Jvm.Cond.selects "java/util/ArrayList" ({ cls := "java/util/ArrayList", name := "size", desc := "()I" } : Jvm.MethodName) ({ cls := "java/util/ArrayList", name := "size", desc := "()I" } : Jvm.MethodName)) ∈ lw_all := lw_g (lw_at lw_m4 210 rfl) rfl
theorem q1156 : (Jvm.Cond.code ({ cls := "java/util/ArrayList", name := "size", desc := "()I" } : Jvm.MethodName) prog_32_method_8_code (1 : Nat) (Option.some Jvm.ClassFile.FieldType.int)) ∈ lw_all := lw_g (lw_at lw_m4 211 rfl) rfl
theorem q1157 : (Jvm.Cond.classLink "CodeLayout" (152 : Nat) "CodeLayout$Ordering") ∈ lw_all := lw_g (lw_at lw_m4 212 rfl) rfl
theorem q1158 : (Jvm.Cond.instantiable "CodeLayout$Ordering" (29 : Nat)) ∈ lw_all := lw_g (lw_at lw_m4 213 rfl) rfl
theorem q1159 : (Jvm.Cond.methodLinkNest "CodeLayout" (154 : Nat) ({ cls := "CodeLayout$Ordering", name := "<init>", desc := "()V" } : Jvm.MethodName) "CodeLayout") ∈ lw_tbl := lw_at lw_m4 214 rfl
theorem q1160 : (Jvm.Cond.instanceMethod ({ cls := "CodeLayout$Ordering", name := "<init>", desc := "()V" } : Jvm.MethodName)) ∈ lw_all := lw_g (lw_at lw_m4 215 rfl) rfl
theorem q1161 : (Jvm.Cond.code ({ cls := "CodeLayout$Ordering", name := "<init>", desc := "()V" } : Jvm.MethodName) prog_7_method_1_code (1 : Nat) (Option.none : Option Jvm.ClassFile.FieldType)) ∈ lw_all := lw_g (lw_at lw_m4 216 rfl) rfl
theorem q1162 : (Jvm.Cond.methodLink "CodeLayout$Ordering" (1 : Nat) ({ cls := "java/lang/Object", name := "<init>", desc := "()V" } : Jvm.MethodName)) ∈ lw_all := lw_g (lw_at lw_m4 217 rfl) rfl
theorem q1163 : (Jvm.Cond.classLink "CodeLayout$Ordering" (21 : Nat) "CodeLayout$Row") ∈ lw_all := lw_g (lw_at lw_m4 218 rfl) rfl
theorem q1164 : (Jvm.Cond.methodLinkNest "CodeLayout$Ordering" (23 : Nat) ({ cls := "CodeLayout$Row", name := "<init>", desc := "()V" } : Jvm.MethodName) "CodeLayout") ∈ lw_tbl := lw_at lw_m4 219 rfl
theorem q1165 : (Jvm.Cond.fieldLink "CodeLayout$Ordering" (91 : Nat) "CodeLayout$Ordering" "p" "LCodeLayout$Program;") ∈ lw_all := lw_g (lw_at lw_m4 220 rfl) rfl
theorem q1166 : (Jvm.Cond.fieldLink "CodeLayout$Ordering" (105 : Nat) "CodeLayout$Ordering" "ways" "LCodeLayout$Counts;") ∈ lw_all := lw_g (lw_at lw_m4 221 rfl) rfl
theorem q1167 : (Jvm.Cond.fieldLink "CodeLayout$Ordering" (109 : Nat) "CodeLayout$Ordering" "calls" "LCodeLayout$Counts;") ∈ lw_all := lw_g (lw_at lw_m4 222 rfl) rfl
theorem q1168 : (Jvm.Cond.fieldLink "CodeLayout$Ordering" (7 : Nat) "CodeLayout$Ordering" "counts" "[J") ∈ lw_all := lw_g (lw_at lw_m4 223 rfl) rfl
theorem q1169 : (Jvm.Cond.fieldLink "CodeLayout" (259 : Nat) "CodeLayout$Ordering" "counts" "[J") ∈ lw_all := lw_g (lw_at lw_m4 224 rfl) rfl
theorem q1170 : (Jvm.Cond.fieldLink "CodeLayout$Ordering" (13 : Nat) "CodeLayout$Ordering" "row" "[I") ∈ lw_all := lw_g (lw_at lw_m4 225 rfl) rfl
theorem q1171 : (Jvm.Cond.fieldLink "CodeLayout$Machine" (231 : Nat) "CodeLayout$Ordering" "row" "[I") ∈ lw_all := lw_g (lw_at lw_m4 226 rfl) rfl
theorem q1172 : (Jvm.Cond.fieldLink "CodeLayout" (304 : Nat) "CodeLayout$Ordering" "row" "[I") ∈ lw_all := lw_g (lw_at lw_m4 227 rfl) rfl
theorem q1173 : (Jvm.Cond.fieldLink "CodeLayout$Ordering" (186 : Nat) "CodeLayout$Ordering" "hot" "I") ∈ lw_all := lw_g (lw_at lw_m4 228 rfl) rfl
theorem q1174 : (Jvm.Cond.fieldLink "CodeLayout" (307 : Nat) "CodeLayout$Ordering" "hot" "I") ∈ lw_all := lw_g (lw_at lw_m4 229 rfl) rfl
theorem q1175 : (Jvm.Cond.fieldLink "CodeLayout$Ordering" (17 : Nat) "CodeLayout$Ordering" "isHot" "[Z") ∈ lw_all := lw_g (lw_at lw_m4 230 rfl) rfl
theorem q1176 : (Jvm.Cond.fieldLink "CodeLayout$Ordering" (24 : Nat) "CodeLayout$Ordering" "sorted" "LCodeLayout$Row;") ∈ lw_all := lw_g (lw_at lw_m4 231 rfl) rfl
theorem q1177 : (Jvm.Cond.fieldLink "CodeLayout$Ordering" (28 : Nat) "CodeLayout$Ordering" "next" "[I") ∈ lw_all := lw_g (lw_at lw_m4 232 rfl) rfl
theorem q1178 : (Jvm.Cond.fieldLink "CodeLayout$Ordering" (31 : Nat) "CodeLayout$Ordering" "before" "[I") ∈ lw_all := lw_g (lw_at lw_m4 233 rfl) rfl
theorem q1179 : (Jvm.Cond.fieldLink "CodeLayout$Ordering" (34 : Nat) "CodeLayout$Ordering" "head" "[I") ∈ lw_all := lw_g (lw_at lw_m4 234 rfl) rfl
theorem q1180 : (Jvm.Cond.fieldLink "CodeLayout$Ordering" (37 : Nat) "CodeLayout$Ordering" "isPlaced" "[Z") ∈ lw_all := lw_g (lw_at lw_m4 235 rfl) rfl
theorem q1181 : (Jvm.Cond.fieldLink "CodeLayout$Ordering" (40 : Nat) "CodeLayout$Ordering" "heat" "[J") ∈ lw_all := lw_g (lw_at lw_m4 236 rfl) rfl
theorem q1182 : (Jvm.Cond.fieldLink "CodeLayout$Ordering" (43 : Nat) "CodeLayout$Ordering" "order" "LCodeLayout$Row;") ∈ lw_all := lw_g (lw_at lw_m4 237 rfl) rfl
theorem q1183 : (Jvm.Cond.fieldLink "CodeLayout$Ordering" (46 : Nat) "CodeLayout$Ordering" "cluster" "[I") ∈ lw_all := lw_g (lw_at lw_m4 238 rfl) rfl
theorem q1184 : (Jvm.Cond.fieldLink "CodeLayout$Ordering" (49 : Nat) "CodeLayout$Ordering" "nextFunction" "[I") ∈ lw_all := lw_g (lw_at lw_m4 239 rfl) rfl
theorem q1185 : (Jvm.Cond.fieldLink "CodeLayout$Ordering" (52 : Nat) "CodeLayout$Ordering" "lastFunction" "[I") ∈ lw_all := lw_g (lw_at lw_m5 0 rfl) rfl
theorem q1186 : (Jvm.Cond.fieldLink "CodeLayout$Ordering" (55 : Nat) "CodeLayout$Ordering" "clusterHeat" "[J") ∈ lw_all := lw_g (lw_at lw_m5 1 rfl) rfl
theorem q1187 : (Jvm.Cond.fieldLink "CodeLayout$Ordering" (58 : Nat) "CodeLayout$Ordering" "clusterSize" "[J") ∈ lw_all := lw_g (lw_at lw_m5 2 rfl) rfl
theorem q1188 : (Jvm.Cond.fieldLink "CodeLayout$Ordering" (61 : Nat) "CodeLayout$Ordering" "sum" "[J") ∈ lw_all := lw_g (lw_at lw_m5 3 rfl) rfl
theorem q1189 : (Jvm.Cond.fieldLink "CodeLayout$Ordering" (64 : Nat) "CodeLayout$Ordering" "chainPlace" "[I") ∈ lw_all := lw_g (lw_at lw_m5 4 rfl) rfl
theorem q1190 : (Jvm.Cond.fieldLink "CodeLayout$Ordering" (67 : Nat) "CodeLayout$Ordering" "numberPlace" "[I") ∈ lw_all := lw_g (lw_at lw_m5 5 rfl) rfl
theorem q1191 : (Jvm.Cond.fieldLink "CodeLayout$Ordering" (70 : Nat) "CodeLayout$Ordering" "least" "[I") ∈ lw_all := lw_g (lw_at lw_m5 6 rfl) rfl
theorem q1192 : (Jvm.Cond.fieldLink "CodeLayout$Ordering" (73 : Nat) "CodeLayout$Ordering" "score" "[J") ∈ lw_all := lw_g (lw_at lw_m5 7 rfl) rfl
theorem q1193 : (Jvm.Cond.fieldLink "CodeLayout$Ordering" (76 : Nat) "CodeLayout$Ordering" "weightOld" "[J") ∈ lw_all := lw_g (lw_at lw_m5 8 rfl) rfl
theorem q1194 : (Jvm.Cond.fieldLink "CodeLayout$Ordering" (79 : Nat) "CodeLayout$Ordering" "weightRow" "[J") ∈ lw_all := lw_g (lw_at lw_m5 9 rfl) rfl
theorem q1195 : (Jvm.Cond.fieldLink "CodeLayout$Ordering" (82 : Nat) "CodeLayout$Ordering" "weightChains" "[J") ∈ lw_all := lw_g (lw_at lw_m5 10 rfl) rfl
theorem q1196 : (Jvm.Cond.fieldLink "CodeLayout$Ordering" (85 : Nat) "CodeLayout$Ordering" "weightNumbers" "[J") ∈ lw_all := lw_g (lw_at lw_m5 11 rfl) rfl
theorem q1197 : (Jvm.Cond.fieldLink "CodeLayout$Ordering" (88 : Nat) "CodeLayout$Ordering" "heads" "LCodeLayout$Row;") ∈ lw_all := lw_g (lw_at lw_m5 12 rfl) rfl
theorem q1257 : (Jvm.Cond.classLink "CodeLayout" (155 : Nat) "CodeLayout$Writing") ∈ lw_all := lw_g (lw_at lw_m5 72 rfl) rfl
theorem q1258 : (Jvm.Cond.instantiable "CodeLayout$Writing" (21 : Nat)) ∈ lw_all := lw_g (lw_at lw_m5 73 rfl) rfl
theorem q1259 : (Jvm.Cond.methodLink "CodeLayout" (157 : Nat) ({ cls := "CodeLayout$Writing", name := "<init>", desc := "(LCodeLayout$Program;)V" } : Jvm.MethodName)) ∈ lw_all := lw_g (lw_at lw_m5 74 rfl) rfl
theorem q1260 : (Jvm.Cond.instanceMethod ({ cls := "CodeLayout$Writing", name := "<init>", desc := "(LCodeLayout$Program;)V" } : Jvm.MethodName)) ∈ lw_all := lw_g (lw_at lw_m5 75 rfl) rfl
theorem q1261 : (Jvm.Cond.code ({ cls := "CodeLayout$Writing", name := "<init>", desc := "(LCodeLayout$Program;)V" } : Jvm.MethodName) prog_14_method_1_code (2 : Nat) (Option.none : Option Jvm.ClassFile.FieldType)) ∈ lw_all := lw_g (lw_at lw_m5 76 rfl) rfl
theorem q1262 : (Jvm.Cond.methodLinkNest "CodeLayout$Writing" (3 : Nat) ({ cls := "CodeLayout$Source", name := "<init>", desc := "()V" } : Jvm.MethodName) "CodeLayout") ∈ lw_tbl := lw_at lw_m5 77 rfl
theorem q1263 : (Jvm.Cond.constant "CodeLayout$Writing" (25 : Nat) (60000 : Int32)) ∈ lw_all := lw_g (lw_at lw_m5 78 rfl) rfl
theorem q1264 : (Jvm.Cond.fieldLink "CodeLayout$Writing" (30 : Nat) "CodeLayout$Writing" "p" "LCodeLayout$Program;") ∈ lw_all := lw_g (lw_at lw_m5 79 rfl) rfl
theorem q1265 : (Jvm.Cond.fieldLink "CodeLayout$Writing" (34 : Nat) "CodeLayout$Writing" "row" "[I") ∈ lw_all := lw_g (lw_at lw_m5 80 rfl) rfl
theorem q1266 : (Jvm.Cond.fieldLink "CodeLayout$Writing" (43 : Nat) "CodeLayout$Writing" "many" "I") ∈ lw_all := lw_g (lw_at lw_m5 81 rfl) rfl
theorem q1267 : (Jvm.Cond.fieldLink "CodeLayout$Writing" (46 : Nat) "CodeLayout$Writing" "hot" "I") ∈ lw_all := lw_g (lw_at lw_m5 82 rfl) rfl
theorem q1268 : (Jvm.Cond.fieldLink "CodeLayout$Writing" (49 : Nat) "CodeLayout$Writing" "apart" "I") ∈ lw_all := lw_g (lw_at lw_m5 83 rfl) rfl
theorem q1269 : (Jvm.Cond.fieldLink "CodeLayout$Writing" (9 : Nat) "CodeLayout$Writing" "start" "[I") ∈ lw_all := lw_g (lw_at lw_m5 84 rfl) rfl
theorem q1270 : (Jvm.Cond.fieldLinkNest "CodeLayout$Machine" (228 : Nat) "CodeLayout$Writing" "start" "[I" "CodeLayout") ∈ lw_tbl := lw_at lw_m5 85 rfl
theorem q1271 : (Jvm.Cond.fieldLink "CodeLayout$Writing" (15 : Nat) "CodeLayout$Writing" "behind" "[I") ∈ lw_all := lw_g (lw_at lw_m5 86 rfl) rfl
theorem q1272 : (Jvm.Cond.fieldLink "CodeLayout$Writing" (18 : Nat) "CodeLayout$Writing" "isLong" "[Z") ∈ lw_all := lw_g (lw_at lw_m5 87 rfl) rfl
theorem q1273 : (Jvm.Cond.fieldLink "CodeLayout$Writing" (22 : Nat) "CodeLayout$Writing" "words" "[I") ∈ lw_all := lw_g (lw_at lw_m5 88 rfl) rfl
theorem q1274 : (Jvm.Cond.fieldLink "CodeLayout$Writing" (59 : Nat) "CodeLayout$Writing" "count" "I") ∈ lw_all := lw_g (lw_at lw_m5 89 rfl) rfl
theorem q1275 : (Jvm.Cond.fieldLink "CodeLayout$Writing" (107 : Nat) "CodeLayout$Writing" "hotWords" "I") ∈ lw_all := lw_g (lw_at lw_m5 90 rfl) rfl
theorem q1276 : (Jvm.Cond.fieldLink "CodeLayout$Writing" (114 : Nat) "CodeLayout$Writing" "coldStart" "I") ∈ lw_all := lw_g (lw_at lw_m5 91 rfl) rfl
theorem q1277 : (Jvm.Cond.fieldLink "CodeLayout$Machine" (197 : Nat) "CodeLayout$Writing" "bytes" "I") ∈ lw_all := lw_g (lw_at lw_m5 92 rfl) rfl
theorem q1278 : (Jvm.Cond.fieldLink "CodeLayout$Writing" (120 : Nat) "CodeLayout$Writing" "bytes" "I") ∈ lw_all := lw_g (lw_at lw_m5 93 rfl) rfl
theorem q1279 : (Jvm.Cond.fieldLink "CodeLayout" (320 : Nat) "CodeLayout$Writing" "bytes" "I") ∈ lw_all := lw_g (lw_at lw_m5 94 rfl) rfl
theorem q1280 : (Jvm.Cond.fieldLink "CodeLayout$Writing" (26 : Nat) "CodeLayout$Writing" "copy" "[B") ∈ lw_all := lw_g (lw_at lw_m5 95 rfl) rfl
theorem q1281 : (Jvm.Cond.fieldLink "CodeLayout$Writing" (223 : Nat) "CodeLayout$Writing" "moved" "I") ∈ lw_all := lw_g (lw_at lw_m5 96 rfl) rfl
theorem q1282 : (Jvm.Cond.fieldLink "CodeLayout$Writing" (152 : Nat) "CodeLayout$Writing" "longs" "I") ∈ lw_all := lw_g (lw_at lw_m5 97 rfl) rfl
theorem q1283 : (Jvm.Cond.fieldLink "CodeLayout" (322 : Nat) "CodeLayout$Writing" "longs" "I") ∈ lw_all := lw_g (lw_at lw_m5 98 rfl) rfl
theorem q1284 : (Jvm.Cond.fieldLink "CodeLayout$Writing" (155 : Nat) "CodeLayout$Writing" "left" "I") ∈ lw_all := lw_g (lw_at lw_m5 99 rfl) rfl
theorem q1285 : (Jvm.Cond.fieldLink "CodeLayout" (325 : Nat) "CodeLayout$Writing" "left" "I") ∈ lw_all := lw_g (lw_at lw_m5 100 rfl) rfl
theorem q1286 : (Jvm.Cond.fieldLink "CodeLayout$Writing" (158 : Nat) "CodeLayout$Writing" "turned" "I") ∈ lw_all := lw_g (lw_at lw_m5 101 rfl) rfl
theorem q1287 : (Jvm.Cond.fieldLink "CodeLayout" (328 : Nat) "CodeLayout$Writing" "turned" "I") ∈ lw_all := lw_g (lw_at lw_m5 102 rfl) rfl
theorem q1288 : (Jvm.Cond.fieldLink "CodeLayout$Writing" (161 : Nat) "CodeLayout$Writing" "put" "I") ∈ lw_all := lw_g (lw_at lw_m5 103 rfl) rfl
theorem q1289 : (Jvm.Cond.fieldLink "CodeLayout" (331 : Nat) "CodeLayout$Writing" "put" "I") ∈ lw_all := lw_g (lw_at lw_m5 104 rfl) rfl
theorem q1290 : (Jvm.Cond.fieldLink "CodeLayout$Writing" (141 : Nat) "CodeLayout$Writing" "strays" "I") ∈ lw_all := lw_g (lw_at lw_m5 105 rfl) rfl
theorem q1291 : (Jvm.Cond.fieldLink "CodeLayout" (317 : Nat) "CodeLayout$Writing" "strays" "I") ∈ lw_all := lw_g (lw_at lw_m5 106 rfl) rfl
theorem q1292 : (Jvm.Cond.fieldLink "CodeLayout$Writing" (138 : Nat) "CodeLayout$Writing" "written" "I") ∈ lw_all := lw_g (lw_at lw_m5 107 rfl) rfl
theorem q1336 : (Jvm.Cond.methodLink "CodeLayout" (160 : Nat) ({ cls := "java/util/ArrayList", name := "add", desc := "(Ljava/lang/Object;)Z" } : Jvm.MethodName)) ∈ lw_all := lw_g (lw_at lw_m5 151 rfl) rfl
theorem q1337 : (Jvm.Cond.instanceMethod ({ cls := "java/util/ArrayList", name := "add", desc := "(Ljava/lang/Object;)Z" } : Jvm.MethodName)) ∈ lw_all := lw_g (lw_at lw_m5 152 rfl) rfl
theorem q1338 : (Jvm.Cond.selects "java/util/ArrayList" ({ cls := "java/util/ArrayList", name := "add", desc := "(Ljava/lang/Object;)Z" } : Jvm.MethodName) ({ cls := "java/util/ArrayList", name := "add", desc := "(Ljava/lang/Object;)Z" } : Jvm.MethodName)) ∈ lw_all := lw_g (lw_at lw_m5 153 rfl) rfl
theorem q1339 : (Jvm.Cond.code ({ cls := "java/util/ArrayList", name := "add", desc := "(Ljava/lang/Object;)Z" } : Jvm.MethodName) prog_32_method_25_code (2 : Nat) (Option.some Jvm.ClassFile.FieldType.boolean)) ∈ lw_all := lw_g (lw_at lw_m5 154 rfl) rfl
theorem q1340 : (Jvm.Cond.methodLink "java/util/ArrayList" (131 : Nat) ({ cls := "java/util/ArrayList", name := "add", desc := "(Ljava/lang/Object;[Ljava/lang/Object;I)V" } : Jvm.MethodName)) ∈ lw_all := lw_g (lw_at lw_m5 155 rfl) rfl
theorem q1342 : (Jvm.Cond.instanceMethod ({ cls := "java/util/ArrayList", name := "add", desc := "(Ljava/lang/Object;[Ljava/lang/Object;I)V" } : Jvm.MethodName)) ∈ lw_all := lw_g (lw_at lw_m5 157 rfl) rfl
theorem q1343 : (Jvm.Cond.code ({ cls := "java/util/ArrayList", name := "add", desc := "(Ljava/lang/Object;[Ljava/lang/Object;I)V" } : Jvm.MethodName) prog_32_method_24_code (4 : Nat) (Option.none : Option Jvm.ClassFile.FieldType)) ∈ lw_all := lw_g (lw_at lw_m5 158 rfl) rfl
theorem q1344 : (Jvm.Cond.methodLink "java/util/ArrayList" (129 : Nat) ({ cls := "java/util/ArrayList", name := "grow", desc := "()[Ljava/lang/Object;" } : Jvm.MethodName)) ∈ lw_all := lw_g (lw_at lw_m5 159 rfl) rfl
theorem q1346 : (Jvm.Cond.instanceMethod ({ cls := "java/util/ArrayList", name := "grow", desc := "()[Ljava/lang/Object;" } : Jvm.MethodName)) ∈ lw_all := lw_g (lw_at lw_m5 161 rfl) rfl
theorem q1347 : (Jvm.Cond.code ({ cls := "java/util/ArrayList", name := "grow", desc := "()[Ljava/lang/Object;" } : Jvm.MethodName) prog_32_method_7_code (1 : Nat) (Option.some (Jvm.ClassFile.FieldType.array (Jvm.ClassFile.FieldType.object "java/lang/Object")))) ∈ lw_all := lw_g (lw_at lw_m5 162 rfl) rfl
theorem q1348 : (Jvm.Cond.methodLink "java/util/ArrayList" (69 : Nat) ({ cls := "java/util/ArrayList", name := "grow", desc := "(I)[Ljava/lang/Object;" } : Jvm.MethodName)) ∈ lw_all := lw_g (lw_at lw_m5 163 rfl) rfl
theorem q1350 : (Jvm.Cond.instanceMethod ({ cls := "java/util/ArrayList", name := "grow", desc := "(I)[Ljava/lang/Object;" } : Jvm.MethodName)) ∈ lw_all := lw_g (lw_at lw_m5 165 rfl) rfl
theorem q1351 : (Jvm.Cond.code ({ cls := "java/util/ArrayList", name := "grow", desc := "(I)[Ljava/lang/Object;" } : Jvm.MethodName) prog_32_method_6_code (4 : Nat) (Option.some (Jvm.ClassFile.FieldType.array (Jvm.ClassFile.FieldType.object "java/lang/Object")))) ∈ lw_all := lw_g (lw_at lw_m5 166 rfl) rfl
theorem q1352 : (Jvm.Cond.methodLink "java/util/ArrayList" (73 : Nat) ({ cls := "jdk/internal/util/ArraysSupport", name := "newLength", desc := "(III)I" } : Jvm.MethodName)) ∈ lw_all := lw_g (lw_at lw_m5 167 rfl) rfl
theorem q1356 : (Jvm.Cond.static ({ cls := "java/lang/Math", name := "max", desc := "(II)I" } : Jvm.MethodName)) ∈ lw_all := lw_g (lw_at lw_m5 171 rfl) rfl
theorem q1357 : (Jvm.Cond.code ({ cls := "java/lang/Math", name := "max", desc := "(II)I" } : Jvm.MethodName) prog_26_method_65_code (2 : Nat) (Option.some Jvm.ClassFile.FieldType.int)) ∈ lw_all := lw_g (lw_at lw_m5 172 rfl) rfl
theorem q1391 : (Jvm.Cond.arrayOver (Jvm.ClassFile.FieldType.object "java/lang/Object")) ∈ lw_tbl := lw_at lw_m5 206 rfl
theorem q1394 : (Jvm.Cond.static ({ cls := "java/lang/Math", name := "min", desc := "(II)I" } : Jvm.MethodName)) ∈ lw_all := lw_g (lw_at lw_m5 209 rfl) rfl
theorem q1395 : (Jvm.Cond.code ({ cls := "java/lang/Math", name := "min", desc := "(II)I" } : Jvm.MethodName) prog_26_method_69_code (2 : Nat) (Option.some Jvm.ClassFile.FieldType.int)) ∈ lw_all := lw_g (lw_at lw_m5 210 rfl) rfl
theorem q1397 : (Jvm.Cond.methodLink "java/util/ArrayList" (79 : Nat) ({ cls := "java/lang/Math", name := "max", desc := "(II)I" } : Jvm.MethodName)) ∈ lw_all := lw_g (lw_at lw_m5 212 rfl) rfl
theorem q1398 : (Jvm.Cond.classLink "java/util/ArrayList" (7 : Nat) "java/lang/Object") ∈ lw_all := lw_g (lw_at lw_m5 213 rfl) rfl
theorem q1399 : (Jvm.Cond.instantiable "CodeLayout$Machine" (24 : Nat)) ∈ lw_all := lw_g (lw_at lw_m5 214 rfl) rfl
theorem q1400 : (Jvm.Cond.methodLink "CodeLayout" (164 : Nat) ({ cls := "CodeLayout$Machine", name := "<init>", desc := "(ILCodeLayout$Program;LCodeLayout$Writing;LCodeLayout$Ordering;)V" } : Jvm.MethodName)) ∈ lw_all := lw_g (lw_at lw_m5 215 rfl) rfl
theorem q1401 : (Jvm.Cond.instanceMethod ({ cls := "CodeLayout$Machine", name := "<init>", desc := "(ILCodeLayout$Program;LCodeLayout$Writing;LCodeLayout$Ordering;)V" } : Jvm.MethodName)) ∈ lw_all := lw_g (lw_at lw_m5 216 rfl) rfl
theorem q1402 : (Jvm.Cond.code ({ cls := "CodeLayout$Machine", name := "<init>", desc := "(ILCodeLayout$Program;LCodeLayout$Writing;LCodeLayout$Ordering;)V" } : Jvm.MethodName) prog_5_method_1_code (5 : Nat) (Option.none : Option Jvm.ClassFile.FieldType)) ∈ lw_all := lw_g (lw_at lw_m5 217 rfl) rfl
theorem q1403 : (Jvm.Cond.methodLink "CodeLayout$Machine" (3 : Nat) ({ cls := "java/lang/Object", name := "<init>", desc := "()V" } : Jvm.MethodName)) ∈ lw_all := lw_g (lw_at lw_m5 218 rfl) rfl
theorem q1404 : (Jvm.Cond.classLink "CodeLayout$Machine" (9 : Nat) "CodeLayout$Halt") ∈ lw_all := lw_g (lw_at lw_m5 219 rfl) rfl
theorem q1405 : (Jvm.Cond.instantiable "CodeLayout$Halt" (2 : Nat)) ∈ lw_all := lw_g (lw_at lw_m5 220 rfl) rfl
theorem q1406 : (Jvm.Cond.methodLinkNest "CodeLayout$Machine" (11 : Nat) ({ cls := "CodeLayout$Halt", name := "<init>", desc := "()V" } : Jvm.MethodName) "CodeLayout") ∈ lw_tbl := lw_at lw_m5 221 rfl
theorem q1407 : (Jvm.Cond.instanceMethod ({ cls := "CodeLayout$Halt", name := "<init>", desc := "()V" } : Jvm.MethodName)) ∈ lw_all := lw_g (lw_at lw_m5 222 rfl) rfl
theorem q1408 : (Jvm.Cond.code ({ cls := "CodeLayout$Halt", name := "<init>", desc := "()V" } : Jvm.MethodName) prog_3_method_1_code (1 : Nat) (Option.none : Option Jvm.ClassFile.FieldType)) ∈ lw_all := lw_g (lw_at lw_m5 223 rfl) rfl
theorem q1409 : (Jvm.Cond.methodLink "CodeLayout$Halt" (1 : Nat) ({ cls := "java/lang/Object", name := "<init>", desc := "()V" } : Jvm.MethodName)) ∈ lw_all := lw_g (lw_at lw_m5 224 rfl) rfl
theorem q1410 : (Jvm.Cond.classLink "CodeLayout$Halt" (7 : Nat) "java/lang/IllegalStateException") ∈ lw_all := lw_g (lw_at lw_m5 225 rfl) rfl
theorem q1411 : (Jvm.Cond.methodLink "CodeLayout$Halt" (9 : Nat) ({ cls := "java/lang/IllegalStateException", name := "<init>", desc := "()V" } : Jvm.MethodName)) ∈ lw_all := lw_g (lw_at lw_m5 226 rfl) rfl
theorem q1412 : (Jvm.Cond.fieldLink "CodeLayout$Halt" (16 : Nat) "CodeLayout$Halt" "outcome" "I") ∈ lw_all := lw_g (lw_at lw_m5 227 rfl) rfl
theorem q1413 : (Jvm.Cond.fieldLink "CodeLayout$Machine" (153 : Nat) "CodeLayout$Halt" "outcome" "I") ∈ lw_all := lw_g (lw_at lw_m5 228 rfl) rfl
theorem q1414 : (Jvm.Cond.fieldLink "CodeLayout$Halt" (10 : Nat) "CodeLayout$Halt" "stop" "Ljava/lang/IllegalStateException;") ∈ lw_all := lw_g (lw_at lw_m5 229 rfl) rfl
theorem q1420 : (Jvm.Cond.classLink "CodeLayout$Machine" (55 : Nat) "CodeLayout$Memory") ∈ lw_all := lw_g (lw_at lw_m5 235 rfl) rfl
theorem q1421 : (Jvm.Cond.instantiable "CodeLayout$Memory" (7 : Nat)) ∈ lw_all := lw_g (lw_at lw_m5 236 rfl) rfl
theorem q1422 : (Jvm.Cond.methodLink "CodeLayout$Machine" (57 : Nat) ({ cls := "CodeLayout$Memory", name := "<init>", desc := "(LCodeLayout$Program;LCodeLayout$Halt;)V" } : Jvm.MethodName)) ∈ lw_all := lw_g (lw_at lw_m5 237 rfl) rfl
theorem q1423 : (Jvm.Cond.instanceMethod ({ cls := "CodeLayout$Memory", name := "<init>", desc := "(LCodeLayout$Program;LCodeLayout$Halt;)V" } : Jvm.MethodName)) ∈ lw_all := lw_g (lw_at lw_m5 238 rfl) rfl
theorem q1424 : (Jvm.Cond.code ({ cls := "CodeLayout$Memory", name := "<init>", desc := "(LCodeLayout$Program;LCodeLayout$Halt;)V" } : Jvm.MethodName) prog_6_method_1_code (3 : Nat) (Option.none : Option Jvm.ClassFile.FieldType)) ∈ lw_all := lw_g (lw_at lw_m5 239 rfl) rfl
theorem q1425 : (Jvm.Cond.methodLink "CodeLayout$Memory" (3 : Nat) ({ cls := "java/lang/Object", name := "<init>", desc := "()V" } : Jvm.MethodName)) ∈ lw_all := lw_g (lw_at lw_m6 0 rfl) rfl
theorem q1426 : (Jvm.Cond.constant "CodeLayout$Memory" (11 : Nat) (125536 : Int32)) ∈ lw_all := lw_g (lw_at lw_m6 1 rfl) rfl
theorem q1427 : (Jvm.Cond.fieldLink "CodeLayout$Memory" (29 : Nat) "CodeLayout$Memory" "p" "LCodeLayout$Program;") ∈ lw_all := lw_g (lw_at lw_m6 2 rfl) rfl
theorem q1428 : (Jvm.Cond.fieldLink "CodeLayout$Memory" (33 : Nat) "CodeLayout$Memory" "halt" "LCodeLayout$Halt;") ∈ lw_all := lw_g (lw_at lw_m6 3 rfl) rfl
theorem q1429 : (Jvm.Cond.fieldLink "CodeLayout$Memory" (12 : Nat) "CodeLayout$Memory" "bytes" "[B") ∈ lw_all := lw_g (lw_at lw_m6 4 rfl) rfl
theorem q1430 : (Jvm.Cond.fieldLink "CodeLayout$Memory" (16 : Nat) "CodeLayout$Memory" "begin" "[I") ∈ lw_all := lw_g (lw_at lw_m6 5 rfl) rfl
theorem q1431 : (Jvm.Cond.fieldLink "CodeLayout$Memory" (20 : Nat) "CodeLayout$Memory" "cells" "[I") ∈ lw_all := lw_g (lw_at lw_m6 6 rfl) rfl
theorem q1432 : (Jvm.Cond.fieldLink "CodeLayout$Memory" (23 : Nat) "CodeLayout$Memory" "kinds" "[B") ∈ lw_all := lw_g (lw_at lw_m6 7 rfl) rfl
theorem q1433 : (Jvm.Cond.fieldLink "CodeLayout$Memory" (26 : Nat) "CodeLayout$Memory" "blocks" "[I") ∈ lw_all := lw_g (lw_at lw_m6 8 rfl) rfl
theorem q1449 : (Jvm.Cond.fieldLink "CodeLayout$Machine" (39 : Nat) "CodeLayout$Machine" "which" "I") ∈ lw_all := lw_g (lw_at lw_m6 24 rfl) rfl
theorem q1450 : (Jvm.Cond.fieldLink "CodeLayout$Machine" (43 : Nat) "CodeLayout$Machine" "p" "LCodeLayout$Program;") ∈ lw_all := lw_g (lw_at lw_m6 25 rfl) rfl
theorem q1451 : (Jvm.Cond.fieldLink "CodeLayout$Machine" (47 : Nat) "CodeLayout$Machine" "laid" "LCodeLayout$Writing;") ∈ lw_all := lw_g (lw_at lw_m6 26 rfl) rfl
theorem q1452 : (Jvm.Cond.fieldLink "CodeLayout$Machine" (51 : Nat) "CodeLayout$Machine" "rows" "LCodeLayout$Ordering;") ∈ lw_all := lw_g (lw_at lw_m6 27 rfl) rfl
theorem q1453 : (Jvm.Cond.fieldLink "CodeLayout$Machine" (12 : Nat) "CodeLayout$Machine" "halt" "LCodeLayout$Halt;") ∈ lw_all := lw_g (lw_at lw_m6 28 rfl) rfl
theorem q1454 : (Jvm.Cond.fieldLink "CodeLayout$Machine" (60 : Nat) "CodeLayout$Machine" "memory" "LCodeLayout$Memory;") ∈ lw_all := lw_g (lw_at lw_m6 29 rfl) rfl
theorem q1455 : (Jvm.Cond.fieldLink "CodeLayout" (406 : Nat) "CodeLayout$Machine" "memory" "LCodeLayout$Memory;") ∈ lw_all := lw_g (lw_at lw_m6 30 rfl) rfl
theorem q1456 : (Jvm.Cond.fieldLink "CodeLayout$Machine" (64 : Nat) "CodeLayout$Machine" "hasNew" "Z") ∈ lw_all := lw_g (lw_at lw_m6 31 rfl) rfl
theorem q1457 : (Jvm.Cond.fieldLink "CodeLayout$Machine" (18 : Nat) "CodeLayout$Machine" "x" "[J") ∈ lw_all := lw_g (lw_at lw_m6 32 rfl) rfl
theorem q1458 : (Jvm.Cond.fieldLink "CodeLayout" (390 : Nat) "CodeLayout$Machine" "x" "[J") ∈ lw_all := lw_g (lw_at lw_m6 33 rfl) rfl
theorem q1459 : (Jvm.Cond.fieldLink "CodeLayout$Machine" (22 : Nat) "CodeLayout$Machine" "kinds" "[I") ∈ lw_all := lw_g (lw_at lw_m6 34 rfl) rfl
theorem q1460 : (Jvm.Cond.fieldLink "CodeLayout" (387 : Nat) "CodeLayout$Machine" "kinds" "[I") ∈ lw_all := lw_g (lw_at lw_m6 35 rfl) rfl
theorem q1461 : (Jvm.Cond.fieldLink "CodeLayout$Machine" (26 : Nat) "CodeLayout$Machine" "ofBlock" "[I") ∈ lw_all := lw_g (lw_at lw_m6 36 rfl) rfl
theorem q1462 : (Jvm.Cond.fieldLink "CodeLayout" (397 : Nat) "CodeLayout$Machine" "ofBlock" "[I") ∈ lw_all := lw_g (lw_at lw_m6 37 rfl) rfl
theorem q1463 : (Jvm.Cond.fieldLink "CodeLayout$Machine" (87 : Nat) "CodeLayout$Machine" "negative" "Z") ∈ lw_all := lw_g (lw_at lw_m6 38 rfl) rfl
theorem q1464 : (Jvm.Cond.fieldLink "CodeLayout" (364 : Nat) "CodeLayout$Machine" "negative" "Z") ∈ lw_all := lw_g (lw_at lw_m6 39 rfl) rfl
theorem q1465 : (Jvm.Cond.fieldLink "CodeLayout$Machine" (90 : Nat) "CodeLayout$Machine" "zero" "Z") ∈ lw_all := lw_g (lw_at lw_m6 40 rfl) rfl
theorem q1466 : (Jvm.Cond.fieldLink "CodeLayout" (367 : Nat) "CodeLayout$Machine" "zero" "Z") ∈ lw_all := lw_g (lw_at lw_m6 41 rfl) rfl
theorem q1467 : (Jvm.Cond.fieldLink "CodeLayout$Machine" (93 : Nat) "CodeLayout$Machine" "carry" "Z") ∈ lw_all := lw_g (lw_at lw_m6 42 rfl) rfl
theorem q1468 : (Jvm.Cond.fieldLink "CodeLayout" (370 : Nat) "CodeLayout$Machine" "carry" "Z") ∈ lw_all := lw_g (lw_at lw_m6 43 rfl) rfl
theorem q1469 : (Jvm.Cond.fieldLink "CodeLayout$Machine" (96 : Nat) "CodeLayout$Machine" "over" "Z") ∈ lw_all := lw_g (lw_at lw_m6 44 rfl) rfl
theorem q1470 : (Jvm.Cond.fieldLink "CodeLayout" (373 : Nat) "CodeLayout$Machine" "over" "Z") ∈ lw_all := lw_g (lw_at lw_m6 45 rfl) rfl
theorem q1471 : (Jvm.Cond.fieldLink "CodeLayout$Machine" (134 : Nat) "CodeLayout$Machine" "at" "J") ∈ lw_all := lw_g (lw_at lw_m6 46 rfl) rfl
theorem q1472 : (Jvm.Cond.fieldLink "CodeLayout$Machine" (99 : Nat) "CodeLayout$Machine" "visits" "I") ∈ lw_all := lw_g (lw_at lw_m6 47 rfl) rfl
theorem q1473 : (Jvm.Cond.fieldLink "CodeLayout" (358 : Nat) "CodeLayout$Machine" "visits" "I") ∈ lw_all := lw_g (lw_at lw_m6 48 rfl) rfl
theorem q1474 : (Jvm.Cond.fieldLink "CodeLayout$Machine" (102 : Nat) "CodeLayout$Machine" "steps" "I") ∈ lw_all := lw_g (lw_at lw_m6 49 rfl) rfl
theorem q1475 : (Jvm.Cond.fieldLink "CodeLayout" (361 : Nat) "CodeLayout$Machine" "steps" "I") ∈ lw_all := lw_g (lw_at lw_m6 50 rfl) rfl
theorem q1476 : (Jvm.Cond.fieldLink "CodeLayout$Machine" (105 : Nat) "CodeLayout$Machine" "calls" "I") ∈ lw_all := lw_g (lw_at lw_m6 51 rfl) rfl
theorem q1477 : (Jvm.Cond.fieldLink "CodeLayout" (376 : Nat) "CodeLayout$Machine" "calls" "I") ∈ lw_all := lw_g (lw_at lw_m6 52 rfl) rfl
theorem q1478 : (Jvm.Cond.fieldLink "CodeLayout$Machine" (108 : Nat) "CodeLayout$Machine" "told" "I") ∈ lw_all := lw_g (lw_at lw_m6 53 rfl) rfl
theorem q1479 : (Jvm.Cond.fieldLink "CodeLayout" (378 : Nat) "CodeLayout$Machine" "told" "I") ∈ lw_all := lw_g (lw_at lw_m6 54 rfl) rfl
theorem q1480 : (Jvm.Cond.fieldLink "CodeLayout$Machine" (137 : Nat) "CodeLayout$Machine" "outcome" "I") ∈ lw_all := lw_g (lw_at lw_m6 55 rfl) rfl
theorem q1481 : (Jvm.Cond.fieldLink "CodeLayout" (381 : Nat) "CodeLayout$Machine" "outcome" "I") ∈ lw_all := lw_g (lw_at lw_m6 56 rfl) rfl
theorem q1482 : (Jvm.Cond.fieldLink "CodeLayout$Machine" (29 : Nat) "CodeLayout$Machine" "visited" "[I") ∈ lw_all := lw_g (lw_at lw_m6 57 rfl) rfl
theorem q1483 : (Jvm.Cond.fieldLink "CodeLayout" (403 : Nat) "CodeLayout$Machine" "visited" "[I") ∈ lw_all := lw_g (lw_at lw_m6 58 rfl) rfl
theorem q1484 : (Jvm.Cond.fieldLink "CodeLayout$Machine" (32 : Nat) "CodeLayout$Machine" "traced" "[J") ∈ lw_all := lw_g (lw_at lw_m6 59 rfl) rfl
theorem q1485 : (Jvm.Cond.fieldLink "CodeLayout" (429 : Nat) "CodeLayout$Machine" "traced" "[J") ∈ lw_all := lw_g (lw_at lw_m6 60 rfl) rfl
theorem q1486 : (Jvm.Cond.fieldLink "CodeLayout$Machine" (35 : Nat) "CodeLayout$Machine" "text" "[B") ∈ lw_all := lw_g (lw_at lw_m6 61 rfl) rfl
theorem q1487 : (Jvm.Cond.fieldLink "CodeLayout" (432 : Nat) "CodeLayout$Machine" "text" "[B") ∈ lw_all := lw_g (lw_at lw_m6 62 rfl) rfl
theorem q1488 : (Jvm.Cond.fieldLink "CodeLayout$Machine" (68 : Nat) "CodeLayout$Machine" "hasRun" "Z") ∈ lw_all := lw_g (lw_at lw_m6 63 rfl) rfl
theorem q1489 : (Jvm.Cond.fieldLink "CodeLayout" (185 : Nat) "CodeLayout$Machine" "hasRun" "Z") ∈ lw_all := lw_g (lw_at lw_m6 64 rfl) rfl
theorem q1539 : (Jvm.Cond.methodLink "CodeLayout" (167 : Nat) ({ cls := "java/util/ArrayList", name := "get", desc := "(I)Ljava/lang/Object;" } : Jvm.MethodName)) ∈ lw_all := lw_g (lw_at lw_m6 114 rfl) rfl
theorem q1540 : (Jvm.Cond.instanceMethod ({ cls := "java/util/ArrayList", name := "get", desc := "(I)Ljava/lang/Object;" } : Jvm.MethodName)) ∈ lw_all := lw_g (lw_at lw_m6 115 rfl) rfl
theorem q1541 : (Jvm.Cond.selects "java/util/ArrayList" ({ cls := "java/util/ArrayList", name := "get", desc := "(I)Ljava/lang/Object;" } : Jvm.MethodName) ({ cls := "java/util/ArrayList", name := "get", desc := "(I)Ljava/lang/Object;" } : Jvm.MethodName)) ∈ lw_all := lw_g (lw_at lw_m6 116 rfl) rfl
theorem q1542 : (Jvm.Cond.code ({ cls := "java/util/ArrayList", name := "get", desc := "(I)Ljava/lang/Object;" } : Jvm.MethodName) prog_32_method_20_code (2 : Nat) (Option.some (Jvm.ClassFile.FieldType.object "java/lang/Object"))) ∈ lw_all := lw_g (lw_at lw_m6 117 rfl) rfl
theorem q1543 : (Jvm.Cond.methodLink "java/util/ArrayList" (118 : Nat) ({ cls := "java/util/Objects", name := "checkIndex", desc := "(II)I" } : Jvm.MethodName)) ∈ lw_all := lw_g (lw_at lw_m6 118 rfl) rfl
theorem q1544 : (Jvm.Cond.static ({ cls := "java/util/Objects", name := "checkIndex", desc := "(II)I" } : Jvm.MethodName)) ∈ lw_all := lw_g (lw_at lw_m6 119 rfl) rfl
theorem q1545 : (Jvm.Cond.code ({ cls := "java/util/Objects", name := "checkIndex", desc := "(II)I" } : Jvm.MethodName) prog_36_method_17_code (2 : Nat) (Option.some Jvm.ClassFile.FieldType.int)) ∈ lw_all := lw_g (lw_at lw_m6 120 rfl) rfl
theorem q1546 : (Jvm.Cond.methodLink "java/util/Objects" (105 : Nat) ({ cls := "jdk/internal/util/Preconditions", name := "checkIndex", desc := "(IILjava/util/function/BiFunction;)I" } : Jvm.MethodName)) ∈ lw_all := lw_g (lw_at lw_m6 121 rfl) rfl
theorem q1547 : (Jvm.Cond.static ({ cls := "jdk/internal/util/Preconditions", name := "checkIndex", desc := "(IILjava/util/function/BiFunction;)I" } : Jvm.MethodName)) ∈ lw_all := lw_g (lw_at lw_m6 122 rfl) rfl
theorem q1548 : (Jvm.Cond.code ({ cls := "jdk/internal/util/Preconditions", name := "checkIndex", desc := "(IILjava/util/function/BiFunction;)I" } : Jvm.MethodName) prog_40_method_11_code (3 : Nat) (Option.some Jvm.ClassFile.FieldType.int)) ∈ lw_all := lw_g (lw_at lw_m6 123 rfl) rfl
theorem q1549 : (Jvm.Cond.methodLink "java/util/ArrayList" (123 : Nat) ({ cls := "java/util/ArrayList", name := "elementData", desc := "(I)Ljava/lang/Object;" } : Jvm.MethodName)) ∈ lw_all := lw_g (lw_at lw_m6 124 rfl) rfl
theorem q1550 : (Jvm.Cond.instanceMethod ({ cls := "java/util/ArrayList", name := "elementData", desc := "(I)Ljava/lang/Object;" } : Jvm.MethodName)) ∈ lw_all := lw_g (lw_at lw_m6 125 rfl) rfl
theorem q1551 : (Jvm.Cond.selects "java/util/ArrayList" ({ cls := "java/util/ArrayList", name := "elementData", desc := "(I)Ljava/lang/Object;" } : Jvm.MethodName) ({ cls := "java/util/ArrayList", name := "elementData", desc := "(I)Ljava/lang/Object;" } : Jvm.MethodName)) ∈ lw_all := lw_g (lw_at lw_m6 126 rfl) rfl
theorem q1552 : (Jvm.Cond.code ({ cls := "java/util/ArrayList", name := "elementData", desc := "(I)Ljava/lang/Object;" } : Jvm.MethodName) prog_32_method_18_code (2 : Nat) (Option.some (Jvm.ClassFile.FieldType.object "java/lang/Object"))) ∈ lw_all := lw_g (lw_at lw_m6 127 rfl) rfl
theorem q1553 : (Jvm.Cond.methodLink "CodeLayout" (182 : Nat) ({ cls := "CodeLayout", name := "forgetRuns", desc := "()V" } : Jvm.MethodName)) ∈ lw_all := lw_g (lw_at lw_m6 128 rfl) rfl
theorem q1555 : (Jvm.Cond.instanceMethod ({ cls := "CodeLayout", name := "forgetRuns", desc := "()V" } : Jvm.MethodName)) ∈ lw_all := lw_g (lw_at lw_m6 130 rfl) rfl
theorem q1556 : (Jvm.Cond.code ({ cls := "CodeLayout", name := "forgetRuns", desc := "()V" } : Jvm.MethodName) prog_1_method_9_code (2 : Nat) (Option.none : Option Jvm.ClassFile.FieldType)) ∈ lw_all := lw_g (lw_at lw_m6 131 rfl) rfl
theorem q1557 : (Jvm.Cond.methodLink "CodeLayout" (144 : Nat) ({ cls := "CodeLayout$Program", name := "functionCount", desc := "()I" } : Jvm.MethodName)) ∈ lw_all := lw_g (lw_at lw_m6 132 rfl) rfl
theorem q1558 : (Jvm.Cond.instanceMethod ({ cls := "CodeLayout$Program", name := "functionCount", desc := "()I" } : Jvm.MethodName)) ∈ lw_all := lw_g (lw_at lw_m6 133 rfl) rfl
theorem q1559 : (Jvm.Cond.selects "CodeLayout$Program" ({ cls := "CodeLayout$Program", name := "functionCount", desc := "()I" } : Jvm.MethodName) ({ cls := "CodeLayout$Program", name := "functionCount", desc := "()I" } : Jvm.MethodName)) ∈ lw_all := lw_g (lw_at lw_m6 134 rfl) rfl
theorem q1560 : (Jvm.Cond.code ({ cls := "CodeLayout$Program", name := "functionCount", desc := "()I" } : Jvm.MethodName) prog_8_method_5_code (1 : Nat) (Option.some Jvm.ClassFile.FieldType.int)) ∈ lw_all := lw_g (lw_at lw_m6 135 rfl) rfl
theorem q1561 : (Jvm.Cond.methodLink "CodeLayoutLaw" (28 : Nat) ({ cls := "CodeLayout", name := "place", desc := "()I" } : Jvm.MethodName)) ∈ lw_all := lw_g (lw_at lw_m6 136 rfl) rfl
theorem q1562 : (Jvm.Cond.instanceMethod ({ cls := "CodeLayout", name := "place", desc := "()I" } : Jvm.MethodName)) ∈ lw_all := lw_g (lw_at lw_m6 137 rfl) rfl
theorem q1563 : (Jvm.Cond.selects "CodeLayout" ({ cls := "CodeLayout", name := "place", desc := "()I" } : Jvm.MethodName) ({ cls := "CodeLayout", name := "place", desc := "()I" } : Jvm.MethodName)) ∈ lw_all := lw_g (lw_at lw_m6 138 rfl) rfl
theorem q1564 : (Jvm.Cond.code ({ cls := "CodeLayout", name := "place", desc := "()I" } : Jvm.MethodName) prog_1_method_10_code (1 : Nat) (Option.some Jvm.ClassFile.FieldType.int)) ∈ lw_all := lw_g (lw_at lw_m6 139 rfl) rfl
theorem q1565 : (Jvm.Cond.methodLink "CodeLayoutLaw" (32 : Nat) ({ cls := "CodeLayout", name := "count", desc := "(I)I" } : Jvm.MethodName)) ∈ lw_all := lw_g (lw_at lw_m6 140 rfl) rfl
theorem q1566 : (Jvm.Cond.instanceMethod ({ cls := "CodeLayout", name := "count", desc := "(I)I" } : Jvm.MethodName)) ∈ lw_all := lw_g (lw_at lw_m6 141 rfl) rfl
theorem q1567 : (Jvm.Cond.selects "CodeLayout" ({ cls := "CodeLayout", name := "count", desc := "(I)I" } : Jvm.MethodName) ({ cls := "CodeLayout", name := "count", desc := "(I)I" } : Jvm.MethodName)) ∈ lw_all := lw_g (lw_at lw_m6 142 rfl) rfl
theorem q1568 : (Jvm.Cond.code ({ cls := "CodeLayout", name := "count", desc := "(I)I" } : Jvm.MethodName) prog_1_method_11_code (2 : Nat) (Option.some Jvm.ClassFile.FieldType.int)) ∈ lw_all := lw_g (lw_at lw_m6 143 rfl) rfl
theorem q1569 : (Jvm.Cond.methodLink "CodeLayout" (194 : Nat) ({ cls := "CodeLayout$Program", name := "fixes", desc := "()I" } : Jvm.MethodName)) ∈ lw_all := lw_g (lw_at lw_m6 144 rfl) rfl
theorem q1570 : (Jvm.Cond.instanceMethod ({ cls := "CodeLayout$Program", name := "fixes", desc := "()I" } : Jvm.MethodName)) ∈ lw_all := lw_g (lw_at lw_m6 145 rfl) rfl
theorem q1571 : (Jvm.Cond.selects "CodeLayout$Program" ({ cls := "CodeLayout$Program", name := "fixes", desc := "()I" } : Jvm.MethodName) ({ cls := "CodeLayout$Program", name := "fixes", desc := "()I" } : Jvm.MethodName)) ∈ lw_all := lw_g (lw_at lw_m6 146 rfl) rfl
theorem q1572 : (Jvm.Cond.code ({ cls := "CodeLayout$Program", name := "fixes", desc := "()I" } : Jvm.MethodName) prog_8_method_8_code (4 : Nat) (Option.some Jvm.ClassFile.FieldType.int)) ∈ lw_all := lw_g (lw_at lw_m6 147 rfl) rfl
theorem q1573 : (Jvm.Cond.methodLink "CodeLayoutLaw" (37 : Nat) ({ cls := "CodeLayout", name := "function", desc := "(II)J" } : Jvm.MethodName)) ∈ lw_all := lw_g (lw_at lw_m6 148 rfl) rfl
theorem q1574 : (Jvm.Cond.instanceMethod ({ cls := "CodeLayout", name := "function", desc := "(II)J" } : Jvm.MethodName)) ∈ lw_all := lw_g (lw_at lw_m6 149 rfl) rfl
theorem q1575 : (Jvm.Cond.selects "CodeLayout" ({ cls := "CodeLayout", name := "function", desc := "(II)J" } : Jvm.MethodName) ({ cls := "CodeLayout", name := "function", desc := "(II)J" } : Jvm.MethodName)) ∈ lw_all := lw_g (lw_at lw_m6 150 rfl) rfl
theorem q1576 : (Jvm.Cond.code ({ cls := "CodeLayout", name := "function", desc := "(II)J" } : Jvm.MethodName) prog_1_method_15_code (4 : Nat) (Option.some Jvm.ClassFile.FieldType.long)) ∈ lw_all := lw_g (lw_at lw_m6 151 rfl) rfl
theorem q1577 : (Jvm.Cond.methodLink "CodeLayout" (201 : Nat) ({ cls := "CodeLayout", name := "isFunction", desc := "(I)Z" } : Jvm.MethodName)) ∈ lw_all := lw_g (lw_at lw_m6 152 rfl) rfl
theorem q1579 : (Jvm.Cond.instanceMethod ({ cls := "CodeLayout", name := "isFunction", desc := "(I)Z" } : Jvm.MethodName)) ∈ lw_all := lw_g (lw_at lw_m6 154 rfl) rfl
theorem q1580 : (Jvm.Cond.code ({ cls := "CodeLayout", name := "isFunction", desc := "(I)Z" } : Jvm.MethodName) prog_1_method_12_code (2 : Nat) (Option.some Jvm.ClassFile.FieldType.boolean)) ∈ lw_all := lw_g (lw_at lw_m6 155 rfl) rfl
theorem q1581 : (Jvm.Cond.constantLong "CodeLayout" (205 : Nat) (-14 : Int64)) ∈ lw_all := lw_g (lw_at lw_m6 156 rfl) rfl
theorem q1582 : (Jvm.Cond.methodLink "CodeLayout" (207 : Nat) ({ cls := "CodeLayout", name := "counted", desc := "()V" } : Jvm.MethodName)) ∈ lw_all := lw_g (lw_at lw_m6 157 rfl) rfl
theorem q1584 : (Jvm.Cond.instanceMethod ({ cls := "CodeLayout", name := "counted", desc := "()V" } : Jvm.MethodName)) ∈ lw_all := lw_g (lw_at lw_m6 159 rfl) rfl
theorem q1585 : (Jvm.Cond.code ({ cls := "CodeLayout", name := "counted", desc := "()V" } : Jvm.MethodName) prog_1_method_14_code (1 : Nat) (Option.none : Option Jvm.ClassFile.FieldType)) ∈ lw_all := lw_g (lw_at lw_m6 160 rfl) rfl
theorem q1586 : (Jvm.Cond.methodLink "CodeLayout" (197 : Nat) ({ cls := "CodeLayout$Ordering", name := "tell", desc := "(LCodeLayout$Program;LCodeLayout$Counts;LCodeLayout$Counts;LCodeLayout$Counts;)V" } : Jvm.MethodName)) ∈ lw_all := lw_g (lw_at lw_m6 161 rfl) rfl
theorem q1587 : (Jvm.Cond.instanceMethod ({ cls := "CodeLayout$Ordering", name := "tell", desc := "(LCodeLayout$Program;LCodeLayout$Counts;LCodeLayout$Counts;LCodeLayout$Counts;)V" } : Jvm.MethodName)) ∈ lw_all := lw_g (lw_at lw_m6 162 rfl) rfl
theorem q1588 : (Jvm.Cond.selects "CodeLayout$Ordering" ({ cls := "CodeLayout$Ordering", name := "tell", desc := "(LCodeLayout$Program;LCodeLayout$Counts;LCodeLayout$Counts;LCodeLayout$Counts;)V" } : Jvm.MethodName) ({ cls := "CodeLayout$Ordering", name := "tell", desc := "(LCodeLayout$Program;LCodeLayout$Counts;LCodeLayout$Counts;LCodeLayout$Counts;)V" } : Jvm.MethodName)) ∈ lw_all := lw_g (lw_at lw_m6 163 rfl) rfl
theorem q1589 : (Jvm.Cond.code ({ cls := "CodeLayout$Ordering", name := "tell", desc := "(LCodeLayout$Program;LCodeLayout$Counts;LCodeLayout$Counts;LCodeLayout$Counts;)V" } : Jvm.MethodName) prog_7_method_3_code (6 : Nat) (Option.none : Option Jvm.ClassFile.FieldType)) ∈ lw_all := lw_g (lw_at lw_m6 164 rfl) rfl
theorem q1590 : (Jvm.Cond.methodLink "CodeLayout$Ordering" (112 : Nat) ({ cls := "CodeLayout$Ordering", name := "room", desc := "()V" } : Jvm.MethodName)) ∈ lw_all := lw_g (lw_at lw_m6 165 rfl) rfl
theorem q1592 : (Jvm.Cond.instanceMethod ({ cls := "CodeLayout$Ordering", name := "room", desc := "()V" } : Jvm.MethodName)) ∈ lw_all := lw_g (lw_at lw_m6 167 rfl) rfl
theorem q1593 : (Jvm.Cond.code ({ cls := "CodeLayout$Ordering", name := "room", desc := "()V" } : Jvm.MethodName) prog_7_method_2_code (2 : Nat) (Option.none : Option Jvm.ClassFile.FieldType)) ∈ lw_all := lw_g (lw_at lw_m6 168 rfl) rfl
theorem q1594 : (Jvm.Cond.methodLink "CodeLayout$Ordering" (101 : Nat) ({ cls := "CodeLayout$Program", name := "functionCount", desc := "()I" } : Jvm.MethodName)) ∈ lw_all := lw_g (lw_at lw_m6 169 rfl) rfl
theorem q1595 : (Jvm.Cond.methodLink "CodeLayout$Ordering" (115 : Nat) ({ cls := "CodeLayout$Counts", name := "size", desc := "()I" } : Jvm.MethodName)) ∈ lw_all := lw_g (lw_at lw_m6 170 rfl) rfl
theorem q1596 : (Jvm.Cond.instanceMethod ({ cls := "CodeLayout$Counts", name := "size", desc := "()I" } : Jvm.MethodName)) ∈ lw_all := lw_g (lw_at lw_m6 171 rfl) rfl
theorem q1597 : (Jvm.Cond.selects "CodeLayout$Counts" ({ cls := "CodeLayout$Counts", name := "size", desc := "()I" } : Jvm.MethodName) ({ cls := "CodeLayout$Counts", name := "size", desc := "()I" } : Jvm.MethodName)) ∈ lw_all := lw_g (lw_at lw_m6 172 rfl) rfl
theorem q1598 : (Jvm.Cond.code ({ cls := "CodeLayout$Counts", name := "size", desc := "()I" } : Jvm.MethodName) prog_2_method_3_code (1 : Nat) (Option.some Jvm.ClassFile.FieldType.int)) ∈ lw_all := lw_g (lw_at lw_m6 173 rfl) rfl
theorem q1599 : (Jvm.Cond.methodLink "CodeLayout$Ordering" (129 : Nat) ({ cls := "CodeLayout$Ordering", name := "add", desc := "(ILCodeLayout$Counts;)V" } : Jvm.MethodName)) ∈ lw_all := lw_g (lw_at lw_m6 174 rfl) rfl
theorem q1601 : (Jvm.Cond.instanceMethod ({ cls := "CodeLayout$Ordering", name := "add", desc := "(ILCodeLayout$Counts;)V" } : Jvm.MethodName)) ∈ lw_all := lw_g (lw_at lw_m6 176 rfl) rfl
theorem q1602 : (Jvm.Cond.code ({ cls := "CodeLayout$Ordering", name := "add", desc := "(ILCodeLayout$Counts;)V" } : Jvm.MethodName) prog_7_method_4_code (4 : Nat) (Option.none : Option Jvm.ClassFile.FieldType)) ∈ lw_all := lw_g (lw_at lw_m6 177 rfl) rfl
theorem q1603 : (Jvm.Cond.methodLink "CodeLayout$Ordering" (136 : Nat) ({ cls := "CodeLayout$Program", name := "firstBlock", desc := "(I)I" } : Jvm.MethodName)) ∈ lw_all := lw_g (lw_at lw_m6 178 rfl) rfl
theorem q1604 : (Jvm.Cond.instanceMethod ({ cls := "CodeLayout$Program", name := "firstBlock", desc := "(I)I" } : Jvm.MethodName)) ∈ lw_all := lw_g (lw_at lw_m6 179 rfl) rfl
theorem q1605 : (Jvm.Cond.selects "CodeLayout$Program" ({ cls := "CodeLayout$Program", name := "firstBlock", desc := "(I)I" } : Jvm.MethodName) ({ cls := "CodeLayout$Program", name := "firstBlock", desc := "(I)I" } : Jvm.MethodName)) ∈ lw_all := lw_g (lw_at lw_m6 180 rfl) rfl
theorem q1606 : (Jvm.Cond.code ({ cls := "CodeLayout$Program", name := "firstBlock", desc := "(I)I" } : Jvm.MethodName) prog_8_method_24_code (2 : Nat) (Option.some Jvm.ClassFile.FieldType.int)) ∈ lw_all := lw_g (lw_at lw_m6 181 rfl) rfl
theorem q1607 : (Jvm.Cond.methodLink "CodeLayout$Ordering" (140 : Nat) ({ cls := "java/lang/Math", name := "max", desc := "(JJ)J" } : Jvm.MethodName)) ∈ lw_all := lw_g (lw_at lw_m6 182 rfl) rfl
theorem q1608 : (Jvm.Cond.methodLink "CodeLayout" (219 : Nat) ({ cls := "CodeLayout$Program", name := "addressOf", desc := "(I)J" } : Jvm.MethodName)) ∈ lw_all := lw_g (lw_at lw_m6 183 rfl) rfl
theorem q1609 : (Jvm.Cond.instanceMethod ({ cls := "CodeLayout$Program", name := "addressOf", desc := "(I)J" } : Jvm.MethodName)) ∈ lw_all := lw_g (lw_at lw_m6 184 rfl) rfl
theorem q1610 : (Jvm.Cond.selects "CodeLayout$Program" ({ cls := "CodeLayout$Program", name := "addressOf", desc := "(I)J" } : Jvm.MethodName) ({ cls := "CodeLayout$Program", name := "addressOf", desc := "(I)J" } : Jvm.MethodName)) ∈ lw_all := lw_g (lw_at lw_m6 185 rfl) rfl
theorem q1611 : (Jvm.Cond.code ({ cls := "CodeLayout$Program", name := "addressOf", desc := "(I)J" } : Jvm.MethodName) prog_8_method_2_code (2 : Nat) (Option.some Jvm.ClassFile.FieldType.long)) ∈ lw_all := lw_g (lw_at lw_m6 186 rfl) rfl
theorem q1612 : (Jvm.Cond.constantLong "CodeLayout" (223 : Nat) (4 : Int64)) ∈ lw_all := lw_g (lw_at lw_m6 187 rfl) rfl
theorem q1613 : (Jvm.Cond.methodLink "CodeLayout" (225 : Nat) ({ cls := "CodeLayout$Program", name := "behind", desc := "(I)I" } : Jvm.MethodName)) ∈ lw_all := lw_g (lw_at lw_m6 188 rfl) rfl
theorem q1614 : (Jvm.Cond.methodLink "CodeLayout" (229 : Nat) ({ cls := "CodeLayout$Program", name := "firstBlock", desc := "(I)I" } : Jvm.MethodName)) ∈ lw_all := lw_g (lw_at lw_m6 189 rfl) rfl
theorem q1615 : (Jvm.Cond.methodLink "CodeLayout" (232 : Nat) ({ cls := "CodeLayout$Ordering", name := "heatOf", desc := "(I)J" } : Jvm.MethodName)) ∈ lw_all := lw_g (lw_at lw_m6 190 rfl) rfl
theorem q1616 : (Jvm.Cond.instanceMethod ({ cls := "CodeLayout$Ordering", name := "heatOf", desc := "(I)J" } : Jvm.MethodName)) ∈ lw_all := lw_g (lw_at lw_m6 191 rfl) rfl
theorem q1617 : (Jvm.Cond.selects "CodeLayout$Ordering" ({ cls := "CodeLayout$Ordering", name := "heatOf", desc := "(I)J" } : Jvm.MethodName) ({ cls := "CodeLayout$Ordering", name := "heatOf", desc := "(I)J" } : Jvm.MethodName)) ∈ lw_all := lw_g (lw_at lw_m6 192 rfl) rfl
theorem q1618 : (Jvm.Cond.code ({ cls := "CodeLayout$Ordering", name := "heatOf", desc := "(I)J" } : Jvm.MethodName) prog_7_method_5_code (2 : Nat) (Option.some Jvm.ClassFile.FieldType.long)) ∈ lw_all := lw_g (lw_at lw_m6 193 rfl) rfl
theorem q1619 : (Jvm.Cond.methodLink "CodeLayoutLaw" (42 : Nat) ({ cls := "CodeLayout", name := "block", desc := "(II)J" } : Jvm.MethodName)) ∈ lw_all := lw_g (lw_at lw_m6 194 rfl) rfl
theorem q1620 : (Jvm.Cond.instanceMethod ({ cls := "CodeLayout", name := "block", desc := "(II)J" } : Jvm.MethodName)) ∈ lw_all := lw_g (lw_at lw_m6 195 rfl) rfl
theorem q1621 : (Jvm.Cond.selects "CodeLayout" ({ cls := "CodeLayout", name := "block", desc := "(II)J" } : Jvm.MethodName) ({ cls := "CodeLayout", name := "block", desc := "(II)J" } : Jvm.MethodName)) ∈ lw_all := lw_g (lw_at lw_m6 196 rfl) rfl
theorem q1622 : (Jvm.Cond.code ({ cls := "CodeLayout", name := "block", desc := "(II)J" } : Jvm.MethodName) prog_1_method_16_code (3 : Nat) (Option.some Jvm.ClassFile.FieldType.long)) ∈ lw_all := lw_g (lw_at lw_m6 197 rfl) rfl
theorem q1623 : (Jvm.Cond.methodLink "CodeLayout" (235 : Nat) ({ cls := "CodeLayout", name := "isBlock", desc := "(I)Z" } : Jvm.MethodName)) ∈ lw_all := lw_g (lw_at lw_m6 198 rfl) rfl
theorem q1625 : (Jvm.Cond.instanceMethod ({ cls := "CodeLayout", name := "isBlock", desc := "(I)Z" } : Jvm.MethodName)) ∈ lw_all := lw_g (lw_at lw_m6 200 rfl) rfl
theorem q1626 : (Jvm.Cond.code ({ cls := "CodeLayout", name := "isBlock", desc := "(I)Z" } : Jvm.MethodName) prog_1_method_13_code (2 : Nat) (Option.some Jvm.ClassFile.FieldType.boolean)) ∈ lw_all := lw_g (lw_at lw_m6 201 rfl) rfl
theorem q1627 : (Jvm.Cond.methodLink "CodeLayout" (240 : Nat) ({ cls := "CodeLayout$Program", name := "wordsOf", desc := "(I)I" } : Jvm.MethodName)) ∈ lw_all := lw_g (lw_at lw_m6 202 rfl) rfl
theorem q1628 : (Jvm.Cond.methodLink "CodeLayout" (243 : Nat) ({ cls := "CodeLayout$Program", name := "functionOf", desc := "(I)I" } : Jvm.MethodName)) ∈ lw_all := lw_g (lw_at lw_m6 203 rfl) rfl
theorem q1629 : (Jvm.Cond.instanceMethod ({ cls := "CodeLayout$Program", name := "functionOf", desc := "(I)I" } : Jvm.MethodName)) ∈ lw_all := lw_g (lw_at lw_m6 204 rfl) rfl
theorem q1630 : (Jvm.Cond.selects "CodeLayout$Program" ({ cls := "CodeLayout$Program", name := "functionOf", desc := "(I)I" } : Jvm.MethodName) ({ cls := "CodeLayout$Program", name := "functionOf", desc := "(I)I" } : Jvm.MethodName)) ∈ lw_all := lw_g (lw_at lw_m6 205 rfl) rfl
theorem q1631 : (Jvm.Cond.code ({ cls := "CodeLayout$Program", name := "functionOf", desc := "(I)I" } : Jvm.MethodName) prog_8_method_23_code (2 : Nat) (Option.some Jvm.ClassFile.FieldType.int)) ∈ lw_all := lw_g (lw_at lw_m6 206 rfl) rfl
theorem q1632 : (Jvm.Cond.methodLink "CodeLayout" (249 : Nat) ({ cls := "CodeLayout$Program", name := "nextOf", desc := "(I)I" } : Jvm.MethodName)) ∈ lw_all := lw_g (lw_at lw_m6 207 rfl) rfl
theorem q1633 : (Jvm.Cond.instanceMethod ({ cls := "CodeLayout$Program", name := "nextOf", desc := "(I)I" } : Jvm.MethodName)) ∈ lw_all := lw_g (lw_at lw_m6 208 rfl) rfl
theorem q1634 : (Jvm.Cond.selects "CodeLayout$Program" ({ cls := "CodeLayout$Program", name := "nextOf", desc := "(I)I" } : Jvm.MethodName) ({ cls := "CodeLayout$Program", name := "nextOf", desc := "(I)I" } : Jvm.MethodName)) ∈ lw_all := lw_g (lw_at lw_m6 209 rfl) rfl
theorem q1635 : (Jvm.Cond.code ({ cls := "CodeLayout$Program", name := "nextOf", desc := "(I)I" } : Jvm.MethodName) prog_8_method_26_code (2 : Nat) (Option.some Jvm.ClassFile.FieldType.int)) ∈ lw_all := lw_g (lw_at lw_m6 210 rfl) rfl
theorem q1636 : (Jvm.Cond.methodLink "CodeLayout" (252 : Nat) ({ cls := "CodeLayout$Program", name := "takenOf", desc := "(I)I" } : Jvm.MethodName)) ∈ lw_all := lw_g (lw_at lw_m6 211 rfl) rfl
theorem q1637 : (Jvm.Cond.instanceMethod ({ cls := "CodeLayout$Program", name := "takenOf", desc := "(I)I" } : Jvm.MethodName)) ∈ lw_all := lw_g (lw_at lw_m6 212 rfl) rfl
theorem q1638 : (Jvm.Cond.selects "CodeLayout$Program" ({ cls := "CodeLayout$Program", name := "takenOf", desc := "(I)I" } : Jvm.MethodName) ({ cls := "CodeLayout$Program", name := "takenOf", desc := "(I)I" } : Jvm.MethodName)) ∈ lw_all := lw_g (lw_at lw_m6 213 rfl) rfl
theorem q1639 : (Jvm.Cond.code ({ cls := "CodeLayout$Program", name := "takenOf", desc := "(I)I" } : Jvm.MethodName) prog_8_method_27_code (2 : Nat) (Option.some Jvm.ClassFile.FieldType.int)) ∈ lw_all := lw_g (lw_at lw_m6 214 rfl) rfl
theorem q1640 : (Jvm.Cond.methodLink "CodeLayoutLaw" (48 : Nat) ({ cls := "CodeLayout", name := "edge", desc := "(JJI)I" } : Jvm.MethodName)) ∈ lw_all := lw_g (lw_at lw_m6 215 rfl) rfl
theorem q1641 : (Jvm.Cond.instanceMethod ({ cls := "CodeLayout", name := "edge", desc := "(JJI)I" } : Jvm.MethodName)) ∈ lw_all := lw_g (lw_at lw_m6 216 rfl) rfl
theorem q1642 : (Jvm.Cond.selects "CodeLayout" ({ cls := "CodeLayout", name := "edge", desc := "(JJI)I" } : Jvm.MethodName) ({ cls := "CodeLayout", name := "edge", desc := "(JJI)I" } : Jvm.MethodName)) ∈ lw_all := lw_g (lw_at lw_m6 217 rfl) rfl
theorem q1643 : (Jvm.Cond.code ({ cls := "CodeLayout", name := "edge", desc := "(JJI)I" } : Jvm.MethodName) prog_1_method_18_code (11 : Nat) (Option.some Jvm.ClassFile.FieldType.int)) ∈ lw_all := lw_g (lw_at lw_m6 218 rfl) rfl
theorem q1644 : (Jvm.Cond.constant "CodeLayout" (274 : Nat) (1000000000 : Int32)) ∈ lw_all := lw_g (lw_at lw_m6 219 rfl) rfl
theorem q1645 : (Jvm.Cond.methodLink "CodeLayout" (275 : Nat) ({ cls := "CodeLayout", name := "wordAt", desc := "(J)I" } : Jvm.MethodName)) ∈ lw_all := lw_g (lw_at lw_m6 220 rfl) rfl
theorem q1647 : (Jvm.Cond.instanceMethod ({ cls := "CodeLayout", name := "wordAt", desc := "(J)I" } : Jvm.MethodName)) ∈ lw_all := lw_g (lw_at lw_m6 222 rfl) rfl
theorem q1648 : (Jvm.Cond.code ({ cls := "CodeLayout", name := "wordAt", desc := "(J)I" } : Jvm.MethodName) prog_1_method_17_code (3 : Nat) (Option.some Jvm.ClassFile.FieldType.int)) ∈ lw_all := lw_g (lw_at lw_m6 223 rfl) rfl
theorem q1649 : (Jvm.Cond.methodLink "CodeLayout" (266 : Nat) ({ cls := "CodeLayout$Shape", name := "isText", desc := "(J)Z" } : Jvm.MethodName)) ∈ lw_all := lw_g (lw_at lw_m6 224 rfl) rfl
theorem q1650 : (Jvm.Cond.methodLink "CodeLayout" (270 : Nat) ({ cls := "CodeLayout$Program", name := "wordAt", desc := "(J)I" } : Jvm.MethodName)) ∈ lw_all := lw_g (lw_at lw_m6 225 rfl) rfl
theorem q1651 : (Jvm.Cond.methodLink "CodeLayout" (279 : Nat) ({ cls := "CodeLayout$Program", name := "lastWord", desc := "(I)I" } : Jvm.MethodName)) ∈ lw_all := lw_g (lw_at lw_m6 226 rfl) rfl
theorem q1652 : (Jvm.Cond.methodLink "CodeLayout" (285 : Nat) ({ cls := "CodeLayout$Program", name := "isWay", desc := "(II)Z" } : Jvm.MethodName)) ∈ lw_all := lw_g (lw_at lw_m6 227 rfl) rfl
theorem q1653 : (Jvm.Cond.instanceMethod ({ cls := "CodeLayout$Program", name := "isWay", desc := "(II)Z" } : Jvm.MethodName)) ∈ lw_all := lw_g (lw_at lw_m6 228 rfl) rfl
theorem q1654 : (Jvm.Cond.selects "CodeLayout$Program" ({ cls := "CodeLayout$Program", name := "isWay", desc := "(II)Z" } : Jvm.MethodName) ({ cls := "CodeLayout$Program", name := "isWay", desc := "(II)Z" } : Jvm.MethodName)) ∈ lw_all := lw_g (lw_at lw_m6 229 rfl) rfl
theorem q1655 : (Jvm.Cond.code ({ cls := "CodeLayout$Program", name := "isWay", desc := "(II)Z" } : Jvm.MethodName) prog_8_method_28_code (3 : Nat) (Option.some Jvm.ClassFile.FieldType.boolean)) ∈ lw_all := lw_g (lw_at lw_m6 230 rfl) rfl
theorem q1656 : (Jvm.Cond.methodLink "CodeLayout$Program" (273 : Nat) ({ cls := "CodeLayout$Program", name := "functionOf", desc := "(I)I" } : Jvm.MethodName)) ∈ lw_all := lw_g (lw_at lw_m6 231 rfl) rfl
theorem q1657 : (Jvm.Cond.methodLink "CodeLayout$Program" (276 : Nat) ({ cls := "CodeLayout$Program", name := "nextOf", desc := "(I)I" } : Jvm.MethodName)) ∈ lw_all := lw_g (lw_at lw_m6 232 rfl) rfl
theorem q1658 : (Jvm.Cond.methodLink "CodeLayout$Program" (279 : Nat) ({ cls := "CodeLayout$Program", name := "takenOf", desc := "(I)I" } : Jvm.MethodName)) ∈ lw_all := lw_g (lw_at lw_m6 233 rfl) rfl
theorem q1659 : (Jvm.Cond.methodLink "CodeLayout" (289 : Nat) ({ cls := "CodeLayout$Counts", name := "add", desc := "(IIJ)V" } : Jvm.MethodName)) ∈ lw_all := lw_g (lw_at lw_m6 234 rfl) rfl
theorem q1660 : (Jvm.Cond.instanceMethod ({ cls := "CodeLayout$Counts", name := "add", desc := "(IIJ)V" } : Jvm.MethodName)) ∈ lw_all := lw_g (lw_at lw_m6 235 rfl) rfl
theorem q1661 : (Jvm.Cond.selects "CodeLayout$Counts" ({ cls := "CodeLayout$Counts", name := "add", desc := "(IIJ)V" } : Jvm.MethodName) ({ cls := "CodeLayout$Counts", name := "add", desc := "(IIJ)V" } : Jvm.MethodName)) ∈ lw_all := lw_g (lw_at lw_m6 236 rfl) rfl
theorem q1662 : (Jvm.Cond.code ({ cls := "CodeLayout$Counts", name := "add", desc := "(IIJ)V" } : Jvm.MethodName) prog_2_method_6_code (7 : Nat) (Option.none : Option Jvm.ClassFile.FieldType)) ∈ lw_all := lw_g (lw_at lw_m6 237 rfl) rfl
theorem q1663 : (Jvm.Cond.methodLink "CodeLayout$Counts" (34 : Nat) ({ cls := "CodeLayout$Counts", name := "seek", desc := "(II)I" } : Jvm.MethodName)) ∈ lw_all := lw_g (lw_at lw_m6 238 rfl) rfl
theorem q1665 : (Jvm.Cond.instanceMethod ({ cls := "CodeLayout$Counts", name := "seek", desc := "(II)I" } : Jvm.MethodName)) ∈ lw_all := lw_g (lw_at lw_m7 0 rfl) rfl
theorem q1666 : (Jvm.Cond.code ({ cls := "CodeLayout$Counts", name := "seek", desc := "(II)I" } : Jvm.MethodName) prog_2_method_4_code (4 : Nat) (Option.some Jvm.ClassFile.FieldType.int)) ∈ lw_all := lw_g (lw_at lw_m7 1 rfl) rfl
theorem q1667 : (Jvm.Cond.methodLink "CodeLayout$Counts" (38 : Nat) ({ cls := "CodeLayout$Row", name := "add", desc := "(I)V" } : Jvm.MethodName)) ∈ lw_all := lw_g (lw_at lw_m7 2 rfl) rfl
theorem q1668 : (Jvm.Cond.methodLink "CodeLayout$Counts" (42 : Nat) ({ cls := "java/lang/System", name := "arraycopy", desc := "(Ljava/lang/Object;ILjava/lang/Object;II)V" } : Jvm.MethodName)) ∈ lw_all := lw_g (lw_at lw_m7 3 rfl) rfl
theorem q1669 : (Jvm.Cond.methodLink "CodeLayout" (292 : Nat) ({ cls := "CodeLayout$Program", name := "isCalled", desc := "(II)Z" } : Jvm.MethodName)) ∈ lw_all := lw_g (lw_at lw_m7 4 rfl) rfl
theorem q1670 : (Jvm.Cond.instanceMethod ({ cls := "CodeLayout$Program", name := "isCalled", desc := "(II)Z" } : Jvm.MethodName)) ∈ lw_all := lw_g (lw_at lw_m7 5 rfl) rfl
theorem q1671 : (Jvm.Cond.selects "CodeLayout$Program" ({ cls := "CodeLayout$Program", name := "isCalled", desc := "(II)Z" } : Jvm.MethodName) ({ cls := "CodeLayout$Program", name := "isCalled", desc := "(II)Z" } : Jvm.MethodName)) ∈ lw_all := lw_g (lw_at lw_m7 6 rfl) rfl
theorem q1672 : (Jvm.Cond.code ({ cls := "CodeLayout$Program", name := "isCalled", desc := "(II)Z" } : Jvm.MethodName) prog_8_method_29_code (3 : Nat) (Option.some Jvm.ClassFile.FieldType.boolean)) ∈ lw_all := lw_g (lw_at lw_m7 7 rfl) rfl
theorem q1673 : (Jvm.Cond.methodLink "CodeLayout$Program" (282 : Nat) ({ cls := "CodeLayout$Program", name := "firstBlock", desc := "(I)I" } : Jvm.MethodName)) ∈ lw_all := lw_g (lw_at lw_m7 8 rfl) rfl
theorem q1674 : (Jvm.Cond.methodLink "CodeLayoutLaw" (53 : Nat) ({ cls := "CodeLayout", name := "way", desc := "(II)J" } : Jvm.MethodName)) ∈ lw_all := lw_g (lw_at lw_m7 9 rfl) rfl
theorem q1675 : (Jvm.Cond.instanceMethod ({ cls := "CodeLayout", name := "way", desc := "(II)J" } : Jvm.MethodName)) ∈ lw_all := lw_g (lw_at lw_m7 10 rfl) rfl
theorem q1676 : (Jvm.Cond.selects "CodeLayout" ({ cls := "CodeLayout", name := "way", desc := "(II)J" } : Jvm.MethodName) ({ cls := "CodeLayout", name := "way", desc := "(II)J" } : Jvm.MethodName)) ∈ lw_all := lw_g (lw_at lw_m7 11 rfl) rfl
theorem q1677 : (Jvm.Cond.code ({ cls := "CodeLayout", name := "way", desc := "(II)J" } : Jvm.MethodName) prog_1_method_19_code (3 : Nat) (Option.some Jvm.ClassFile.FieldType.long)) ∈ lw_all := lw_g (lw_at lw_m7 12 rfl) rfl
theorem q1678 : (Jvm.Cond.methodLink "CodeLayout" (295 : Nat) ({ cls := "CodeLayout$Counts", name := "of", desc := "(II)J" } : Jvm.MethodName)) ∈ lw_all := lw_g (lw_at lw_m7 13 rfl) rfl
theorem q1679 : (Jvm.Cond.instanceMethod ({ cls := "CodeLayout$Counts", name := "of", desc := "(II)J" } : Jvm.MethodName)) ∈ lw_all := lw_g (lw_at lw_m7 14 rfl) rfl
theorem q1680 : (Jvm.Cond.selects "CodeLayout$Counts" ({ cls := "CodeLayout$Counts", name := "of", desc := "(II)J" } : Jvm.MethodName) ({ cls := "CodeLayout$Counts", name := "of", desc := "(II)J" } : Jvm.MethodName)) ∈ lw_all := lw_g (lw_at lw_m7 15 rfl) rfl
theorem q1681 : (Jvm.Cond.code ({ cls := "CodeLayout$Counts", name := "of", desc := "(II)J" } : Jvm.MethodName) prog_2_method_5_code (4 : Nat) (Option.some Jvm.ClassFile.FieldType.long)) ∈ lw_all := lw_g (lw_at lw_m7 16 rfl) rfl
theorem q1682 : (Jvm.Cond.methodLink "CodeLayoutLaw" (57 : Nat) ({ cls := "CodeLayout", name := "calls", desc := "(II)J" } : Jvm.MethodName)) ∈ lw_all := lw_g (lw_at lw_m7 17 rfl) rfl
theorem q1683 : (Jvm.Cond.instanceMethod ({ cls := "CodeLayout", name := "calls", desc := "(II)J" } : Jvm.MethodName)) ∈ lw_all := lw_g (lw_at lw_m7 18 rfl) rfl
theorem q1684 : (Jvm.Cond.selects "CodeLayout" ({ cls := "CodeLayout", name := "calls", desc := "(II)J" } : Jvm.MethodName) ({ cls := "CodeLayout", name := "calls", desc := "(II)J" } : Jvm.MethodName)) ∈ lw_all := lw_g (lw_at lw_m7 19 rfl) rfl
theorem q1685 : (Jvm.Cond.code ({ cls := "CodeLayout", name := "calls", desc := "(II)J" } : Jvm.MethodName) prog_1_method_20_code (3 : Nat) (Option.some Jvm.ClassFile.FieldType.long)) ∈ lw_all := lw_g (lw_at lw_m7 20 rfl) rfl
theorem q1686 : (Jvm.Cond.methodLink "CodeLayoutLaw" (61 : Nat) ({ cls := "CodeLayout", name := "lay", desc := "(II)I" } : Jvm.MethodName)) ∈ lw_all := lw_g (lw_at lw_m7 21 rfl) rfl
theorem q1687 : (Jvm.Cond.instanceMethod ({ cls := "CodeLayout", name := "lay", desc := "(II)I" } : Jvm.MethodName)) ∈ lw_all := lw_g (lw_at lw_m7 22 rfl) rfl
theorem q1688 : (Jvm.Cond.selects "CodeLayout" ({ cls := "CodeLayout", name := "lay", desc := "(II)I" } : Jvm.MethodName) ({ cls := "CodeLayout", name := "lay", desc := "(II)I" } : Jvm.MethodName)) ∈ lw_all := lw_g (lw_at lw_m7 23 rfl) rfl
theorem q1689 : (Jvm.Cond.code ({ cls := "CodeLayout", name := "lay", desc := "(II)I" } : Jvm.MethodName) prog_1_method_21_code (3 : Nat) (Option.some Jvm.ClassFile.FieldType.int)) ∈ lw_all := lw_g (lw_at lw_m7 24 rfl) rfl
theorem q1690 : (Jvm.Cond.constant "CodeLayout" (299 : Nat) (65536 : Int32)) ∈ lw_all := lw_g (lw_at lw_m7 25 rfl) rfl
theorem q1691 : (Jvm.Cond.constant "CodeLayout" (300 : Nat) (2097152 : Int32)) ∈ lw_all := lw_g (lw_at lw_m7 26 rfl) rfl
theorem q1692 : (Jvm.Cond.methodLink "CodeLayout" (301 : Nat) ({ cls := "CodeLayout$Ordering", name := "lay", desc := "(I)V" } : Jvm.MethodName)) ∈ lw_all := lw_g (lw_at lw_m7 27 rfl) rfl
theorem q1693 : (Jvm.Cond.instanceMethod ({ cls := "CodeLayout$Ordering", name := "lay", desc := "(I)V" } : Jvm.MethodName)) ∈ lw_all := lw_g (lw_at lw_m7 28 rfl) rfl
theorem q1694 : (Jvm.Cond.selects "CodeLayout$Ordering" ({ cls := "CodeLayout$Ordering", name := "lay", desc := "(I)V" } : Jvm.MethodName) ({ cls := "CodeLayout$Ordering", name := "lay", desc := "(I)V" } : Jvm.MethodName)) ∈ lw_all := lw_g (lw_at lw_m7 29 rfl) rfl
theorem q1695 : (Jvm.Cond.code ({ cls := "CodeLayout$Ordering", name := "lay", desc := "(I)V" } : Jvm.MethodName) prog_7_method_13_code (4 : Nat) (Option.none : Option Jvm.ClassFile.FieldType)) ∈ lw_all := lw_g (lw_at lw_m7 30 rfl) rfl
theorem q1696 : (Jvm.Cond.methodLink "CodeLayout$Ordering" (172 : Nat) ({ cls := "CodeLayout$Ordering", name := "roomForRows", desc := "()V" } : Jvm.MethodName)) ∈ lw_all := lw_g (lw_at lw_m7 31 rfl) rfl
theorem q1698 : (Jvm.Cond.instanceMethod ({ cls := "CodeLayout$Ordering", name := "roomForRows", desc := "()V" } : Jvm.MethodName)) ∈ lw_all := lw_g (lw_at lw_m7 33 rfl) rfl
theorem q1699 : (Jvm.Cond.code ({ cls := "CodeLayout$Ordering", name := "roomForRows", desc := "()V" } : Jvm.MethodName) prog_7_method_12_code (2 : Nat) (Option.none : Option Jvm.ClassFile.FieldType)) ∈ lw_all := lw_g (lw_at lw_m7 34 rfl) rfl
theorem q1700 : (Jvm.Cond.methodLink "CodeLayout$Ordering" (175 : Nat) ({ cls := "CodeLayout$Ordering", name := "chain", desc := "()V" } : Jvm.MethodName)) ∈ lw_all := lw_g (lw_at lw_m7 35 rfl) rfl
theorem q1702 : (Jvm.Cond.instanceMethod ({ cls := "CodeLayout$Ordering", name := "chain", desc := "()V" } : Jvm.MethodName)) ∈ lw_all := lw_g (lw_at lw_m7 37 rfl) rfl
theorem q1703 : (Jvm.Cond.code ({ cls := "CodeLayout$Ordering", name := "chain", desc := "()V" } : Jvm.MethodName) prog_7_method_10_code (4 : Nat) (Option.none : Option Jvm.ClassFile.FieldType)) ∈ lw_all := lw_g (lw_at lw_m7 38 rfl) rfl
theorem q1704 : (Jvm.Cond.methodLink "CodeLayout$Ordering" (163 : Nat) ({ cls := "CodeLayout$Ordering", name := "sortWays", desc := "()V" } : Jvm.MethodName)) ∈ lw_all := lw_g (lw_at lw_m7 39 rfl) rfl
theorem q1706 : (Jvm.Cond.instanceMethod ({ cls := "CodeLayout$Ordering", name := "sortWays", desc := "()V" } : Jvm.MethodName)) ∈ lw_all := lw_g (lw_at lw_m7 41 rfl) rfl
theorem q1707 : (Jvm.Cond.code ({ cls := "CodeLayout$Ordering", name := "sortWays", desc := "()V" } : Jvm.MethodName) prog_7_method_7_code (3 : Nat) (Option.none : Option Jvm.ClassFile.FieldType)) ∈ lw_all := lw_g (lw_at lw_m7 42 rfl) rfl
theorem q1708 : (Jvm.Cond.methodLink "CodeLayout$Ordering" (149 : Nat) ({ cls := "CodeLayout$Program", name := "falls", desc := "(II)Z" } : Jvm.MethodName)) ∈ lw_all := lw_g (lw_at lw_m7 43 rfl) rfl
theorem q1709 : (Jvm.Cond.instanceMethod ({ cls := "CodeLayout$Program", name := "falls", desc := "(II)Z" } : Jvm.MethodName)) ∈ lw_all := lw_g (lw_at lw_m7 44 rfl) rfl
theorem q1710 : (Jvm.Cond.selects "CodeLayout$Program" ({ cls := "CodeLayout$Program", name := "falls", desc := "(II)Z" } : Jvm.MethodName) ({ cls := "CodeLayout$Program", name := "falls", desc := "(II)Z" } : Jvm.MethodName)) ∈ lw_all := lw_g (lw_at lw_m7 45 rfl) rfl
theorem q1711 : (Jvm.Cond.code ({ cls := "CodeLayout$Program", name := "falls", desc := "(II)Z" } : Jvm.MethodName) prog_8_method_30_code (3 : Nat) (Option.some Jvm.ClassFile.FieldType.boolean)) ∈ lw_all := lw_g (lw_at lw_m7 46 rfl) rfl
theorem q1712 : (Jvm.Cond.methodLink "CodeLayout$Ordering" (153 : Nat) ({ cls := "CodeLayout$Row", name := "add", desc := "(I)V" } : Jvm.MethodName)) ∈ lw_all := lw_g (lw_at lw_m7 47 rfl) rfl
theorem q1713 : (Jvm.Cond.methodLink "CodeLayout$Ordering" (156 : Nat) ({ cls := "CodeLayout$Ordering", name := "sink", desc := "(II)V" } : Jvm.MethodName)) ∈ lw_all := lw_g (lw_at lw_m7 48 rfl) rfl
theorem q1715 : (Jvm.Cond.instanceMethod ({ cls := "CodeLayout$Ordering", name := "sink", desc := "(II)V" } : Jvm.MethodName)) ∈ lw_all := lw_g (lw_at lw_m7 50 rfl) rfl
theorem q1716 : (Jvm.Cond.code ({ cls := "CodeLayout$Ordering", name := "sink", desc := "(II)V" } : Jvm.MethodName) prog_7_method_8_code (7 : Nat) (Option.none : Option Jvm.ClassFile.FieldType)) ∈ lw_all := lw_g (lw_at lw_m7 51 rfl) rfl
theorem q1717 : (Jvm.Cond.methodLink "CodeLayout$Ordering" (160 : Nat) ({ cls := "CodeLayout$Ordering", name := "isSooner", desc := "(II)Z" } : Jvm.MethodName)) ∈ lw_all := lw_g (lw_at lw_m7 52 rfl) rfl
theorem q1719 : (Jvm.Cond.instanceMethod ({ cls := "CodeLayout$Ordering", name := "isSooner", desc := "(II)Z" } : Jvm.MethodName)) ∈ lw_all := lw_g (lw_at lw_m7 54 rfl) rfl
theorem q1720 : (Jvm.Cond.code ({ cls := "CodeLayout$Ordering", name := "isSooner", desc := "(II)Z" } : Jvm.MethodName) prog_7_method_6_code (3 : Nat) (Option.some Jvm.ClassFile.FieldType.boolean)) ∈ lw_all := lw_g (lw_at lw_m7 55 rfl) rfl
theorem q1721 : (Jvm.Cond.methodLink "CodeLayout$Ordering" (166 : Nat) ({ cls := "CodeLayout$Ordering", name := "headOf", desc := "(I)I" } : Jvm.MethodName)) ∈ lw_all := lw_g (lw_at lw_m7 56 rfl) rfl
theorem q1723 : (Jvm.Cond.instanceMethod ({ cls := "CodeLayout$Ordering", name := "headOf", desc := "(I)I" } : Jvm.MethodName)) ∈ lw_all := lw_g (lw_at lw_m7 58 rfl) rfl
theorem q1724 : (Jvm.Cond.code ({ cls := "CodeLayout$Ordering", name := "headOf", desc := "(I)I" } : Jvm.MethodName) prog_7_method_9_code (3 : Nat) (Option.some Jvm.ClassFile.FieldType.int)) ∈ lw_all := lw_g (lw_at lw_m7 59 rfl) rfl
theorem q1725 : (Jvm.Cond.methodLink "CodeLayout$Ordering" (169 : Nat) ({ cls := "CodeLayout$Program", name := "functionOf", desc := "(I)I" } : Jvm.MethodName)) ∈ lw_all := lw_g (lw_at lw_m7 60 rfl) rfl
theorem q1726 : (Jvm.Cond.methodLink "CodeLayout$Ordering" (178 : Nat) ({ cls := "CodeLayout$Ordering", name := "place", desc := "(I)V" } : Jvm.MethodName)) ∈ lw_all := lw_g (lw_at lw_m7 61 rfl) rfl
theorem q1728 : (Jvm.Cond.instanceMethod ({ cls := "CodeLayout$Ordering", name := "place", desc := "(I)V" } : Jvm.MethodName)) ∈ lw_all := lw_g (lw_at lw_m7 63 rfl) rfl
theorem q1729 : (Jvm.Cond.code ({ cls := "CodeLayout$Ordering", name := "place", desc := "(I)V" } : Jvm.MethodName) prog_7_method_14_code (10 : Nat) (Option.none : Option Jvm.ClassFile.FieldType)) ∈ lw_all := lw_g (lw_at lw_m7 64 rfl) rfl
theorem q1730 : (Jvm.Cond.methodLink "CodeLayout$Ordering" (193 : Nat) ({ cls := "CodeLayout$Program", name := "blockCount", desc := "(I)I" } : Jvm.MethodName)) ∈ lw_all := lw_g (lw_at lw_m7 65 rfl) rfl
theorem q1731 : (Jvm.Cond.instanceMethod ({ cls := "CodeLayout$Program", name := "blockCount", desc := "(I)I" } : Jvm.MethodName)) ∈ lw_all := lw_g (lw_at lw_m7 66 rfl) rfl
theorem q1732 : (Jvm.Cond.selects "CodeLayout$Program" ({ cls := "CodeLayout$Program", name := "blockCount", desc := "(I)I" } : Jvm.MethodName) ({ cls := "CodeLayout$Program", name := "blockCount", desc := "(I)I" } : Jvm.MethodName)) ∈ lw_all := lw_g (lw_at lw_m7 67 rfl) rfl
theorem q1733 : (Jvm.Cond.code ({ cls := "CodeLayout$Program", name := "blockCount", desc := "(I)I" } : Jvm.MethodName) prog_8_method_25_code (2 : Nat) (Option.some Jvm.ClassFile.FieldType.int)) ∈ lw_all := lw_g (lw_at lw_m7 68 rfl) rfl
theorem q1734 : (Jvm.Cond.methodLink "CodeLayout$Ordering" (196 : Nat) ({ cls := "CodeLayout$Ordering", name := "isMet", desc := "(I)Z" } : Jvm.MethodName)) ∈ lw_all := lw_g (lw_at lw_m7 69 rfl) rfl
theorem q1736 : (Jvm.Cond.instanceMethod ({ cls := "CodeLayout$Ordering", name := "isMet", desc := "(I)Z" } : Jvm.MethodName)) ∈ lw_all := lw_g (lw_at lw_m7 71 rfl) rfl
theorem q1737 : (Jvm.Cond.code ({ cls := "CodeLayout$Ordering", name := "isMet", desc := "(I)Z" } : Jvm.MethodName) prog_7_method_15_code (3 : Nat) (Option.some Jvm.ClassFile.FieldType.boolean)) ∈ lw_all := lw_g (lw_at lw_m7 72 rfl) rfl
theorem q1738 : (Jvm.Cond.methodLink "CodeLayout$Ordering" (200 : Nat) ({ cls := "CodeLayout$Ordering", name := "putChain", desc := "(II)I" } : Jvm.MethodName)) ∈ lw_all := lw_g (lw_at lw_m7 73 rfl) rfl
theorem q1740 : (Jvm.Cond.instanceMethod ({ cls := "CodeLayout$Ordering", name := "putChain", desc := "(II)I" } : Jvm.MethodName)) ∈ lw_all := lw_g (lw_at lw_m7 75 rfl) rfl
theorem q1741 : (Jvm.Cond.code ({ cls := "CodeLayout$Ordering", name := "putChain", desc := "(II)I" } : Jvm.MethodName) prog_7_method_16_code (7 : Nat) (Option.some Jvm.ClassFile.FieldType.int)) ∈ lw_all := lw_g (lw_at lw_m7 76 rfl) rfl
theorem q1742 : (Jvm.Cond.methodLink "CodeLayout$Ordering" (181 : Nat) ({ cls := "CodeLayout$Ordering", name := "weigh", desc := "()V" } : Jvm.MethodName)) ∈ lw_all := lw_g (lw_at lw_m7 77 rfl) rfl
theorem q1744 : (Jvm.Cond.instanceMethod ({ cls := "CodeLayout$Ordering", name := "weigh", desc := "()V" } : Jvm.MethodName)) ∈ lw_all := lw_g (lw_at lw_m7 79 rfl) rfl
theorem q1745 : (Jvm.Cond.code ({ cls := "CodeLayout$Ordering", name := "weigh", desc := "()V" } : Jvm.MethodName) prog_7_method_17_code (5 : Nat) (Option.none : Option Jvm.ClassFile.FieldType)) ∈ lw_all := lw_g (lw_at lw_m7 80 rfl) rfl
theorem q1746 : (Jvm.Cond.methodLink "CodeLayout$Ordering" (184 : Nat) ({ cls := "CodeLayout$Ordering", name := "cluster", desc := "(I)V" } : Jvm.MethodName)) ∈ lw_all := lw_g (lw_at lw_m7 81 rfl) rfl
theorem q1748 : (Jvm.Cond.instanceMethod ({ cls := "CodeLayout$Ordering", name := "cluster", desc := "(I)V" } : Jvm.MethodName)) ∈ lw_all := lw_g (lw_at lw_m7 83 rfl) rfl
theorem q1749 : (Jvm.Cond.code ({ cls := "CodeLayout$Ordering", name := "cluster", desc := "(I)V" } : Jvm.MethodName) prog_7_method_19_code (4 : Nat) (Option.none : Option Jvm.ClassFile.FieldType)) ∈ lw_all := lw_g (lw_at lw_m7 84 rfl) rfl
theorem q1750 : (Jvm.Cond.methodLink "CodeLayout$Ordering" (203 : Nat) ({ cls := "CodeLayout$Program", name := "wordsOf", desc := "(I)I" } : Jvm.MethodName)) ∈ lw_all := lw_g (lw_at lw_m7 85 rfl) rfl
theorem q1751 : (Jvm.Cond.methodLink "CodeLayout$Ordering" (206 : Nat) ({ cls := "CodeLayout$Ordering", name := "sortByHeat", desc := "()V" } : Jvm.MethodName)) ∈ lw_all := lw_g (lw_at lw_m7 86 rfl) rfl
theorem q1753 : (Jvm.Cond.instanceMethod ({ cls := "CodeLayout$Ordering", name := "sortByHeat", desc := "()V" } : Jvm.MethodName)) ∈ lw_all := lw_g (lw_at lw_m7 88 rfl) rfl
theorem q1754 : (Jvm.Cond.code ({ cls := "CodeLayout$Ordering", name := "sortByHeat", desc := "()V" } : Jvm.MethodName) prog_7_method_20_code (4 : Nat) (Option.none : Option Jvm.ClassFile.FieldType)) ∈ lw_all := lw_g (lw_at lw_m7 89 rfl) rfl
theorem q1755 : (Jvm.Cond.methodLink "CodeLayout$Ordering" (209 : Nat) ({ cls := "CodeLayout$Ordering", name := "join", desc := "(II)V" } : Jvm.MethodName)) ∈ lw_all := lw_g (lw_at lw_m7 90 rfl) rfl
theorem q1757 : (Jvm.Cond.instanceMethod ({ cls := "CodeLayout$Ordering", name := "join", desc := "(II)V" } : Jvm.MethodName)) ∈ lw_all := lw_g (lw_at lw_m7 92 rfl) rfl
theorem q1758 : (Jvm.Cond.code ({ cls := "CodeLayout$Ordering", name := "join", desc := "(II)V" } : Jvm.MethodName) prog_7_method_22_code (7 : Nat) (Option.none : Option Jvm.ClassFile.FieldType)) ∈ lw_all := lw_g (lw_at lw_m7 93 rfl) rfl
theorem q1759 : (Jvm.Cond.methodLink "CodeLayout$Ordering" (215 : Nat) ({ cls := "CodeLayout$Ordering", name := "callerOf", desc := "(I)I" } : Jvm.MethodName)) ∈ lw_all := lw_g (lw_at lw_m7 94 rfl) rfl
theorem q1761 : (Jvm.Cond.instanceMethod ({ cls := "CodeLayout$Ordering", name := "callerOf", desc := "(I)I" } : Jvm.MethodName)) ∈ lw_all := lw_g (lw_at lw_m7 96 rfl) rfl
theorem q1762 : (Jvm.Cond.code ({ cls := "CodeLayout$Ordering", name := "callerOf", desc := "(I)I" } : Jvm.MethodName) prog_7_method_21_code (7 : Nat) (Option.some Jvm.ClassFile.FieldType.int)) ∈ lw_all := lw_g (lw_at lw_m7 97 rfl) rfl
theorem q1763 : (Jvm.Cond.methodLink "CodeLayout$Ordering" (212 : Nat) ({ cls := "CodeLayout$Ordering", name := "gather", desc := "()V" } : Jvm.MethodName)) ∈ lw_all := lw_g (lw_at lw_m7 98 rfl) rfl
theorem q1765 : (Jvm.Cond.instanceMethod ({ cls := "CodeLayout$Ordering", name := "gather", desc := "()V" } : Jvm.MethodName)) ∈ lw_all := lw_g (lw_at lw_m7 100 rfl) rfl
theorem q1766 : (Jvm.Cond.code ({ cls := "CodeLayout$Ordering", name := "gather", desc := "()V" } : Jvm.MethodName) prog_7_method_24_code (4 : Nat) (Option.none : Option Jvm.ClassFile.FieldType)) ∈ lw_all := lw_g (lw_at lw_m7 101 rfl) rfl
theorem q1767 : (Jvm.Cond.methodLink "CodeLayout$Ordering" (221 : Nat) ({ cls := "CodeLayout$Ordering", name := "isDenser", desc := "(II)Z" } : Jvm.MethodName)) ∈ lw_all := lw_g (lw_at lw_m7 102 rfl) rfl
theorem q1769 : (Jvm.Cond.instanceMethod ({ cls := "CodeLayout$Ordering", name := "isDenser", desc := "(II)Z" } : Jvm.MethodName)) ∈ lw_all := lw_g (lw_at lw_m7 104 rfl) rfl
theorem q1770 : (Jvm.Cond.code ({ cls := "CodeLayout$Ordering", name := "isDenser", desc := "(II)Z" } : Jvm.MethodName) prog_7_method_25_code (7 : Nat) (Option.some Jvm.ClassFile.FieldType.boolean)) ∈ lw_all := lw_g (lw_at lw_m7 105 rfl) rfl
theorem q1771 : (Jvm.Cond.methodLink "CodeLayout$Ordering" (224 : Nat) ({ cls := "CodeLayout$Ordering", name := "leastOf", desc := "(I)I" } : Jvm.MethodName)) ∈ lw_all := lw_g (lw_at lw_m7 106 rfl) rfl
theorem q1773 : (Jvm.Cond.instanceMethod ({ cls := "CodeLayout$Ordering", name := "leastOf", desc := "(I)I" } : Jvm.MethodName)) ∈ lw_all := lw_g (lw_at lw_m7 108 rfl) rfl
theorem q1774 : (Jvm.Cond.code ({ cls := "CodeLayout$Ordering", name := "leastOf", desc := "(I)I" } : Jvm.MethodName) prog_7_method_23_code (4 : Nat) (Option.some Jvm.ClassFile.FieldType.int)) ∈ lw_all := lw_g (lw_at lw_m7 109 rfl) rfl
theorem q1775 : (Jvm.Cond.methodLink "CodeLayout$Ordering" (218 : Nat) ({ cls := "java/lang/Math", name := "min", desc := "(II)I" } : Jvm.MethodName)) ∈ lw_all := lw_g (lw_at lw_m7 110 rfl) rfl
theorem q1776 : (Jvm.Cond.methodLink "CodeLayout$Ordering" (189 : Nat) ({ cls := "CodeLayout$Ordering", name := "put", desc := "(II)I" } : Jvm.MethodName)) ∈ lw_all := lw_g (lw_at lw_m7 111 rfl) rfl
theorem q1778 : (Jvm.Cond.instanceMethod ({ cls := "CodeLayout$Ordering", name := "put", desc := "(II)I" } : Jvm.MethodName)) ∈ lw_all := lw_g (lw_at lw_m7 113 rfl) rfl
theorem q1779 : (Jvm.Cond.code ({ cls := "CodeLayout$Ordering", name := "put", desc := "(II)I" } : Jvm.MethodName) prog_7_method_18_code (6 : Nat) (Option.some Jvm.ClassFile.FieldType.int)) ∈ lw_all := lw_g (lw_at lw_m7 114 rfl) rfl
theorem q1780 : (Jvm.Cond.methodLink "CodeLayout" (310 : Nat) ({ cls := "CodeLayout$Writing", name := "write", desc := "([III)V" } : Jvm.MethodName)) ∈ lw_all := lw_g (lw_at lw_m7 115 rfl) rfl
theorem q1781 : (Jvm.Cond.instanceMethod ({ cls := "CodeLayout$Writing", name := "write", desc := "([III)V" } : Jvm.MethodName)) ∈ lw_all := lw_g (lw_at lw_m7 116 rfl) rfl
theorem q1782 : (Jvm.Cond.selects "CodeLayout$Writing" ({ cls := "CodeLayout$Writing", name := "write", desc := "([III)V" } : Jvm.MethodName) ({ cls := "CodeLayout$Writing", name := "write", desc := "([III)V" } : Jvm.MethodName)) ∈ lw_all := lw_g (lw_at lw_m7 117 rfl) rfl
theorem q1783 : (Jvm.Cond.code ({ cls := "CodeLayout$Writing", name := "write", desc := "([III)V" } : Jvm.MethodName) prog_14_method_2_code (6 : Nat) (Option.none : Option Jvm.ClassFile.FieldType)) ∈ lw_all := lw_g (lw_at lw_m7 118 rfl) rfl
theorem q1784 : (Jvm.Cond.methodLink "CodeLayout$Writing" (52 : Nat) ({ cls := "CodeLayout$Writing", name := "place", desc := "()V" } : Jvm.MethodName)) ∈ lw_all := lw_g (lw_at lw_m7 119 rfl) rfl
theorem q1786 : (Jvm.Cond.instanceMethod ({ cls := "CodeLayout$Writing", name := "place", desc := "()V" } : Jvm.MethodName)) ∈ lw_all := lw_g (lw_at lw_m7 121 rfl) rfl
theorem q1787 : (Jvm.Cond.code ({ cls := "CodeLayout$Writing", name := "place", desc := "()V" } : Jvm.MethodName) prog_14_method_10_code (5 : Nat) (Option.none : Option Jvm.ClassFile.FieldType)) ∈ lw_all := lw_g (lw_at lw_m7 122 rfl) rfl
theorem q1788 : (Jvm.Cond.methodLink "CodeLayout$Writing" (110 : Nat) ({ cls := "CodeLayout$Program", name := "addressOf", desc := "(I)J" } : Jvm.MethodName)) ∈ lw_all := lw_g (lw_at lw_m7 123 rfl) rfl
theorem q1789 : (Jvm.Cond.methodLink "CodeLayout$Writing" (117 : Nat) ({ cls := "CodeLayout$Writing", name := "sizeOf", desc := "(I)I" } : Jvm.MethodName)) ∈ lw_all := lw_g (lw_at lw_m7 124 rfl) rfl
theorem q1791 : (Jvm.Cond.instanceMethod ({ cls := "CodeLayout$Writing", name := "sizeOf", desc := "(I)I" } : Jvm.MethodName)) ∈ lw_all := lw_g (lw_at lw_m7 126 rfl) rfl
theorem q1792 : (Jvm.Cond.code ({ cls := "CodeLayout$Writing", name := "sizeOf", desc := "(I)I" } : Jvm.MethodName) prog_14_method_6_code (2 : Nat) (Option.some Jvm.ClassFile.FieldType.int)) ∈ lw_all := lw_g (lw_at lw_m7 127 rfl) rfl
theorem q1793 : (Jvm.Cond.methodLink "CodeLayout$Writing" (74 : Nat) ({ cls := "CodeLayout$Program", name := "wordsOf", desc := "(I)I" } : Jvm.MethodName)) ∈ lw_all := lw_g (lw_at lw_m7 128 rfl) rfl
theorem q1794 : (Jvm.Cond.methodLink "CodeLayout$Writing" (84 : Nat) ({ cls := "CodeLayout$Writing", name := "isLeft", desc := "(I)Z" } : Jvm.MethodName)) ∈ lw_all := lw_g (lw_at lw_m7 129 rfl) rfl
theorem q1796 : (Jvm.Cond.instanceMethod ({ cls := "CodeLayout$Writing", name := "isLeft", desc := "(I)Z" } : Jvm.MethodName)) ∈ lw_all := lw_g (lw_at lw_m7 131 rfl) rfl
theorem q1797 : (Jvm.Cond.code ({ cls := "CodeLayout$Writing", name := "isLeft", desc := "(I)Z" } : Jvm.MethodName) prog_14_method_3_code (2 : Nat) (Option.some Jvm.ClassFile.FieldType.boolean)) ∈ lw_all := lw_g (lw_at lw_m7 132 rfl) rfl
theorem q1798 : (Jvm.Cond.methodLink "CodeLayout$Writing" (87 : Nat) ({ cls := "CodeLayout$Writing", name := "isPut", desc := "(I)Z" } : Jvm.MethodName)) ∈ lw_all := lw_g (lw_at lw_m7 133 rfl) rfl
theorem q1800 : (Jvm.Cond.instanceMethod ({ cls := "CodeLayout$Writing", name := "isPut", desc := "(I)Z" } : Jvm.MethodName)) ∈ lw_all := lw_g (lw_at lw_m7 135 rfl) rfl
theorem q1801 : (Jvm.Cond.code ({ cls := "CodeLayout$Writing", name := "isPut", desc := "(I)Z" } : Jvm.MethodName) prog_14_method_5_code (2 : Nat) (Option.some Jvm.ClassFile.FieldType.boolean)) ∈ lw_all := lw_g (lw_at lw_m7 136 rfl) rfl
theorem q1802 : (Jvm.Cond.methodLink "CodeLayout$Writing" (78 : Nat) ({ cls := "CodeLayout$Program", name := "nextOf", desc := "(I)I" } : Jvm.MethodName)) ∈ lw_all := lw_g (lw_at lw_m7 137 rfl) rfl
theorem q1803 : (Jvm.Cond.methodLink "CodeLayout$Writing" (81 : Nat) ({ cls := "CodeLayout$Writing", name := "isTurned", desc := "(I)Z" } : Jvm.MethodName)) ∈ lw_all := lw_g (lw_at lw_m7 138 rfl) rfl
theorem q1805 : (Jvm.Cond.instanceMethod ({ cls := "CodeLayout$Writing", name := "isTurned", desc := "(I)Z" } : Jvm.MethodName)) ∈ lw_all := lw_g (lw_at lw_m7 140 rfl) rfl
theorem q1806 : (Jvm.Cond.code ({ cls := "CodeLayout$Writing", name := "isTurned", desc := "(I)Z" } : Jvm.MethodName) prog_14_method_4_code (2 : Nat) (Option.some Jvm.ClassFile.FieldType.boolean)) ∈ lw_all := lw_g (lw_at lw_m7 141 rfl) rfl
theorem q1807 : (Jvm.Cond.methodLink "CodeLayout$Writing" (55 : Nat) ({ cls := "CodeLayout$Writing", name := "reaches", desc := "(I)Z" } : Jvm.MethodName)) ∈ lw_all := lw_g (lw_at lw_m7 142 rfl) rfl
theorem q1809 : (Jvm.Cond.instanceMethod ({ cls := "CodeLayout$Writing", name := "reaches", desc := "(I)Z" } : Jvm.MethodName)) ∈ lw_all := lw_g (lw_at lw_m7 144 rfl) rfl
theorem q1810 : (Jvm.Cond.code ({ cls := "CodeLayout$Writing", name := "reaches", desc := "(I)Z" } : Jvm.MethodName) prog_14_method_9_code (2 : Nat) (Option.some Jvm.ClassFile.FieldType.boolean)) ∈ lw_all := lw_g (lw_at lw_m7 145 rfl) rfl
theorem q1811 : (Jvm.Cond.methodLink "CodeLayout$Writing" (93 : Nat) ({ cls := "CodeLayout$Program", name := "lastWord", desc := "(I)I" } : Jvm.MethodName)) ∈ lw_all := lw_g (lw_at lw_m7 146 rfl) rfl
theorem q1812 : (Jvm.Cond.methodLink "CodeLayout$Writing" (96 : Nat) ({ cls := "CodeLayout$Writing", name := "goalOf", desc := "(I)I" } : Jvm.MethodName)) ∈ lw_all := lw_g (lw_at lw_m7 147 rfl) rfl
theorem q1814 : (Jvm.Cond.instanceMethod ({ cls := "CodeLayout$Writing", name := "goalOf", desc := "(I)I" } : Jvm.MethodName)) ∈ lw_all := lw_g (lw_at lw_m7 149 rfl) rfl
theorem q1815 : (Jvm.Cond.code ({ cls := "CodeLayout$Writing", name := "goalOf", desc := "(I)I" } : Jvm.MethodName) prog_14_method_7_code (2 : Nat) (Option.some Jvm.ClassFile.FieldType.int)) ∈ lw_all := lw_g (lw_at lw_m7 150 rfl) rfl
theorem q1816 : (Jvm.Cond.methodLink "CodeLayout$Writing" (99 : Nat) ({ cls := "CodeLayout$Writing", name := "endAt", desc := "(I)I" } : Jvm.MethodName)) ∈ lw_all := lw_g (lw_at lw_m7 151 rfl) rfl
theorem q1818 : (Jvm.Cond.instanceMethod ({ cls := "CodeLayout$Writing", name := "endAt", desc := "(I)I" } : Jvm.MethodName)) ∈ lw_all := lw_g (lw_at lw_m7 153 rfl) rfl
theorem q1819 : (Jvm.Cond.code ({ cls := "CodeLayout$Writing", name := "endAt", desc := "(I)I" } : Jvm.MethodName) prog_14_method_8_code (2 : Nat) (Option.some Jvm.ClassFile.FieldType.int)) ∈ lw_all := lw_g (lw_at lw_m7 154 rfl) rfl
theorem q1820 : (Jvm.Cond.methodLink "CodeLayout$Writing" (102 : Nat) ({ cls := "CodeLayout$Words", name := "reaches", desc := "(IJ)Z" } : Jvm.MethodName)) ∈ lw_all := lw_g (lw_at lw_m7 155 rfl) rfl
theorem q1821 : (Jvm.Cond.static ({ cls := "CodeLayout$Words", name := "reaches", desc := "(IJ)Z" } : Jvm.MethodName)) ∈ lw_all := lw_g (lw_at lw_m7 156 rfl) rfl
theorem q1822 : (Jvm.Cond.code ({ cls := "CodeLayout$Words", name := "reaches", desc := "(IJ)Z" } : Jvm.MethodName) prog_13_method_23_code (3 : Nat) (Option.some Jvm.ClassFile.FieldType.boolean)) ∈ lw_all := lw_g (lw_at lw_m7 157 rfl) rfl
theorem q1823 : (Jvm.Cond.constantLong "CodeLayout$Words" (89 : Nat) (2 : Int64)) ∈ lw_all := lw_g (lw_at lw_m7 158 rfl) rfl
theorem q1824 : (Jvm.Cond.methodLink "CodeLayout$Writing" (62 : Nat) ({ cls := "CodeLayout$Writing", name := "emitAll", desc := "()V" } : Jvm.MethodName)) ∈ lw_all := lw_g (lw_at lw_m7 159 rfl) rfl
theorem q1826 : (Jvm.Cond.instanceMethod ({ cls := "CodeLayout$Writing", name := "emitAll", desc := "()V" } : Jvm.MethodName)) ∈ lw_all := lw_g (lw_at lw_m7 161 rfl) rfl
theorem q1827 : (Jvm.Cond.code ({ cls := "CodeLayout$Writing", name := "emitAll", desc := "()V" } : Jvm.MethodName) prog_14_method_16_code (2 : Nat) (Option.none : Option Jvm.ClassFile.FieldType)) ∈ lw_all := lw_g (lw_at lw_m7 162 rfl) rfl
theorem q1828 : (Jvm.Cond.methodLink "CodeLayout$Writing" (164 : Nat) ({ cls := "CodeLayout$Writing", name := "block", desc := "(I)V" } : Jvm.MethodName)) ∈ lw_all := lw_g (lw_at lw_m7 163 rfl) rfl
theorem q1830 : (Jvm.Cond.instanceMethod ({ cls := "CodeLayout$Writing", name := "block", desc := "(I)V" } : Jvm.MethodName)) ∈ lw_all := lw_g (lw_at lw_m7 165 rfl) rfl
theorem q1831 : (Jvm.Cond.code ({ cls := "CodeLayout$Writing", name := "block", desc := "(I)V" } : Jvm.MethodName) prog_14_method_17_code (6 : Nat) (Option.none : Option Jvm.ClassFile.FieldType)) ∈ lw_all := lw_g (lw_at lw_m7 166 rfl) rfl
theorem q1832 : (Jvm.Cond.methodLink "CodeLayout$Writing" (167 : Nat) ({ cls := "CodeLayout$Writing", name := "fixed", desc := "(I)I" } : Jvm.MethodName)) ∈ lw_all := lw_g (lw_at lw_m7 167 rfl) rfl
theorem q1834 : (Jvm.Cond.instanceMethod ({ cls := "CodeLayout$Writing", name := "fixed", desc := "(I)I" } : Jvm.MethodName)) ∈ lw_all := lw_g (lw_at lw_m7 169 rfl) rfl
theorem q1835 : (Jvm.Cond.code ({ cls := "CodeLayout$Writing", name := "fixed", desc := "(I)I" } : Jvm.MethodName) prog_14_method_18_code (5 : Nat) (Option.some Jvm.ClassFile.FieldType.int)) ∈ lw_all := lw_g (lw_at lw_m7 170 rfl) rfl
theorem q1836 : (Jvm.Cond.methodLink "CodeLayout$Writing" (185 : Nat) ({ cls := "CodeLayout$Shape", name := "fixType", desc := "(I)I" } : Jvm.MethodName)) ∈ lw_all := lw_g (lw_at lw_m7 171 rfl) rfl
theorem q1837 : (Jvm.Cond.methodLink "CodeLayout$Writing" (190 : Nat) ({ cls := "CodeLayout$Program", name := "targetWord", desc := "(I)I" } : Jvm.MethodName)) ∈ lw_all := lw_g (lw_at lw_m7 172 rfl) rfl
theorem q1838 : (Jvm.Cond.methodLink "CodeLayout$Writing" (196 : Nat) ({ cls := "CodeLayout$Writing", name := "movedWord", desc := "(I)J" } : Jvm.MethodName)) ∈ lw_all := lw_g (lw_at lw_m7 173 rfl) rfl
theorem q1839 : (Jvm.Cond.instanceMethod ({ cls := "CodeLayout$Writing", name := "movedWord", desc := "(I)J" } : Jvm.MethodName)) ∈ lw_all := lw_g (lw_at lw_m7 174 rfl) rfl
theorem q1840 : (Jvm.Cond.selects "CodeLayout$Writing" ({ cls := "CodeLayout$Writing", name := "movedWord", desc := "(I)J" } : Jvm.MethodName) ({ cls := "CodeLayout$Writing", name := "movedWord", desc := "(I)J" } : Jvm.MethodName)) ∈ lw_all := lw_g (lw_at lw_m7 175 rfl) rfl
theorem q1841 : (Jvm.Cond.code ({ cls := "CodeLayout$Writing", name := "movedWord", desc := "(I)J" } : Jvm.MethodName) prog_14_method_12_code (2 : Nat) (Option.some Jvm.ClassFile.FieldType.long)) ∈ lw_all := lw_g (lw_at lw_m7 176 rfl) rfl
theorem q1842 : (Jvm.Cond.methodLink "CodeLayout$Writing" (126 : Nat) ({ cls := "CodeLayout$Writing", name := "addressOf", desc := "(I)J" } : Jvm.MethodName)) ∈ lw_all := lw_g (lw_at lw_m7 177 rfl) rfl
theorem q1843 : (Jvm.Cond.instanceMethod ({ cls := "CodeLayout$Writing", name := "addressOf", desc := "(I)J" } : Jvm.MethodName)) ∈ lw_all := lw_g (lw_at lw_m7 178 rfl) rfl
theorem q1844 : (Jvm.Cond.selects "CodeLayout$Writing" ({ cls := "CodeLayout$Writing", name := "addressOf", desc := "(I)J" } : Jvm.MethodName) ({ cls := "CodeLayout$Writing", name := "addressOf", desc := "(I)J" } : Jvm.MethodName)) ∈ lw_all := lw_g (lw_at lw_m7 179 rfl) rfl
theorem q1845 : (Jvm.Cond.code ({ cls := "CodeLayout$Writing", name := "addressOf", desc := "(I)J" } : Jvm.MethodName) prog_14_method_11_code (2 : Nat) (Option.some Jvm.ClassFile.FieldType.long)) ∈ lw_all := lw_g (lw_at lw_m7 180 rfl) rfl
theorem q1846 : (Jvm.Cond.constantLong "CodeLayout$Writing" (127 : Nat) (4 : Int64)) ∈ lw_all := lw_g (lw_at lw_m7 181 rfl) rfl
theorem q1847 : (Jvm.Cond.methodLink "CodeLayout$Writing" (199 : Nat) ({ cls := "CodeLayout$Shape", name := "target", desc := "(I)J" } : Jvm.MethodName)) ∈ lw_all := lw_g (lw_at lw_m7 182 rfl) rfl
theorem q1848 : (Jvm.Cond.methodLink "CodeLayout$Writing" (202 : Nat) ({ cls := "CodeLayout$Words", name := "paging", desc := "(IJJ)I" } : Jvm.MethodName)) ∈ lw_all := lw_g (lw_at lw_m7 183 rfl) rfl
theorem q1849 : (Jvm.Cond.static ({ cls := "CodeLayout$Words", name := "paging", desc := "(IJJ)I" } : Jvm.MethodName)) ∈ lw_all := lw_g (lw_at lw_m7 184 rfl) rfl
theorem q1850 : (Jvm.Cond.code ({ cls := "CodeLayout$Words", name := "paging", desc := "(IJJ)I" } : Jvm.MethodName) prog_13_method_28_code (6 : Nat) (Option.some Jvm.ClassFile.FieldType.int)) ∈ lw_all := lw_g (lw_at lw_m7 185 rfl) rfl
theorem q1851 : (Jvm.Cond.methodLink "CodeLayout$Words" (97 : Nat) ({ cls := "CodeLayout$Words", name := "pageOf", desc := "(J)J" } : Jvm.MethodName)) ∈ lw_all := lw_g (lw_at lw_m7 186 rfl) rfl
theorem q1852 : (Jvm.Cond.constant "CodeLayout$Words" (101 : Nat) (-1627389921 : Int32)) ∈ lw_all := lw_g (lw_at lw_m7 187 rfl) rfl
theorem q1853 : (Jvm.Cond.methodLink "CodeLayout$Writing" (206 : Nat) ({ cls := "CodeLayout$Words", name := "adding", desc := "(IJ)I" } : Jvm.MethodName)) ∈ lw_all := lw_g (lw_at lw_m7 188 rfl) rfl
theorem q1854 : (Jvm.Cond.static ({ cls := "CodeLayout$Words", name := "adding", desc := "(IJ)I" } : Jvm.MethodName)) ∈ lw_all := lw_g (lw_at lw_m7 189 rfl) rfl
theorem q1855 : (Jvm.Cond.code ({ cls := "CodeLayout$Words", name := "adding", desc := "(IJ)I" } : Jvm.MethodName) prog_13_method_30_code (3 : Nat) (Option.some Jvm.ClassFile.FieldType.int)) ∈ lw_all := lw_g (lw_at lw_m7 190 rfl) rfl
theorem q1856 : (Jvm.Cond.constant "CodeLayout$Words" (105 : Nat) (-4193281 : Int32)) ∈ lw_all := lw_g (lw_at lw_m7 191 rfl) rfl
theorem q1857 : (Jvm.Cond.constantLong "CodeLayout$Words" (106 : Nat) (4095 : Int64)) ∈ lw_all := lw_g (lw_at lw_m7 192 rfl) rfl
theorem q1858 : (Jvm.Cond.methodLink "CodeLayout$Writing" (148 : Nat) ({ cls := "CodeLayout$Writing", name := "emit", desc := "(I)V" } : Jvm.MethodName)) ∈ lw_all := lw_g (lw_at lw_m7 193 rfl) rfl
theorem q1860 : (Jvm.Cond.instanceMethod ({ cls := "CodeLayout$Writing", name := "emit", desc := "(I)V" } : Jvm.MethodName)) ∈ lw_all := lw_g (lw_at lw_m7 195 rfl) rfl
theorem q1861 : (Jvm.Cond.code ({ cls := "CodeLayout$Writing", name := "emit", desc := "(I)V" } : Jvm.MethodName) prog_14_method_14_code (2 : Nat) (Option.none : Option Jvm.ClassFile.FieldType)) ∈ lw_all := lw_g (lw_at lw_m7 196 rfl) rfl
theorem q1862 : (Jvm.Cond.methodLink "CodeLayout$Writing" (170 : Nat) ({ cls := "CodeLayout$Writing", name := "end", desc := "(II)V" } : Jvm.MethodName)) ∈ lw_all := lw_g (lw_at lw_m7 197 rfl) rfl
theorem q1864 : (Jvm.Cond.instanceMethod ({ cls := "CodeLayout$Writing", name := "end", desc := "(II)V" } : Jvm.MethodName)) ∈ lw_all := lw_g (lw_at lw_m7 199 rfl) rfl
theorem q1865 : (Jvm.Cond.code ({ cls := "CodeLayout$Writing", name := "end", desc := "(II)V" } : Jvm.MethodName) prog_14_method_19_code (7 : Nat) (Option.none : Option Jvm.ClassFile.FieldType)) ∈ lw_all := lw_g (lw_at lw_m7 200 rfl) rfl
theorem q1866 : (Jvm.Cond.methodLink "CodeLayout$Writing" (174 : Nat) ({ cls := "CodeLayout$Writing", name := "go", desc := "(IIJ)V" } : Jvm.MethodName)) ∈ lw_all := lw_g (lw_at lw_m7 201 rfl) rfl
theorem q1868 : (Jvm.Cond.instanceMethod ({ cls := "CodeLayout$Writing", name := "go", desc := "(IIJ)V" } : Jvm.MethodName)) ∈ lw_all := lw_g (lw_at lw_m7 203 rfl) rfl
theorem q1869 : (Jvm.Cond.code ({ cls := "CodeLayout$Writing", name := "go", desc := "(IIJ)V" } : Jvm.MethodName) prog_14_method_15_code (5 : Nat) (Option.none : Option Jvm.ClassFile.FieldType)) ∈ lw_all := lw_g (lw_at lw_m7 204 rfl) rfl
theorem q1870 : (Jvm.Cond.methodLink "CodeLayout$Writing" (144 : Nat) ({ cls := "CodeLayout$Words", name := "going", desc := "(IIJ)I" } : Jvm.MethodName)) ∈ lw_all := lw_g (lw_at lw_m7 205 rfl) rfl
theorem q1871 : (Jvm.Cond.static ({ cls := "CodeLayout$Words", name := "going", desc := "(IIJ)I" } : Jvm.MethodName)) ∈ lw_all := lw_g (lw_at lw_m7 206 rfl) rfl
theorem q1872 : (Jvm.Cond.code ({ cls := "CodeLayout$Words", name := "going", desc := "(IIJ)I" } : Jvm.MethodName) prog_13_method_24_code (6 : Nat) (Option.some Jvm.ClassFile.FieldType.int)) ∈ lw_all := lw_g (lw_at lw_m7 207 rfl) rfl
theorem q1873 : (Jvm.Cond.constantLong "CodeLayout$Words" (91 : Nat) (4 : Int64)) ∈ lw_all := lw_g (lw_at lw_m7 208 rfl) rfl
theorem q1874 : (Jvm.Cond.methodLink "CodeLayout$Writing" (210 : Nat) ({ cls := "CodeLayout$Words", name := "turned", desc := "(II)I" } : Jvm.MethodName)) ∈ lw_all := lw_g (lw_at lw_m7 209 rfl) rfl
theorem q1875 : (Jvm.Cond.static ({ cls := "CodeLayout$Words", name := "turned", desc := "(II)I" } : Jvm.MethodName)) ∈ lw_all := lw_g (lw_at lw_m7 210 rfl) rfl
theorem q1876 : (Jvm.Cond.code ({ cls := "CodeLayout$Words", name := "turned", desc := "(II)I" } : Jvm.MethodName) prog_13_method_25_code (2 : Nat) (Option.some Jvm.ClassFile.FieldType.int)) ∈ lw_all := lw_g (lw_at lw_m7 211 rfl) rfl
theorem q1877 : (Jvm.Cond.constant "CodeLayout$Words" (93 : Nat) (16777216 : Int32)) ∈ lw_all := lw_g (lw_at lw_m7 212 rfl) rfl
theorem q1878 : (Jvm.Cond.constantLong "CodeLayout$Writing" (213 : Nat) (8 : Int64)) ∈ lw_all := lw_g (lw_at lw_m7 213 rfl) rfl
theorem q1879 : (Jvm.Cond.constant "CodeLayout$Writing" (173 : Nat) (335544320 : Int32)) ∈ lw_all := lw_g (lw_at lw_m7 214 rfl) rfl
theorem q1880 : (Jvm.Cond.methodLink "CodeLayout$Writing" (65 : Nat) ({ cls := "CodeLayout$Writing", name := "file", desc := "()V" } : Jvm.MethodName)) ∈ lw_all := lw_g (lw_at lw_m7 215 rfl) rfl
theorem q1882 : (Jvm.Cond.instanceMethod ({ cls := "CodeLayout$Writing", name := "file", desc := "()V" } : Jvm.MethodName)) ∈ lw_all := lw_g (lw_at lw_m7 217 rfl) rfl
theorem q1883 : (Jvm.Cond.code ({ cls := "CodeLayout$Writing", name := "file", desc := "()V" } : Jvm.MethodName) prog_14_method_25_code (7 : Nat) (Option.none : Option Jvm.ClassFile.FieldType)) ∈ lw_all := lw_g (lw_at lw_m7 218 rfl) rfl
theorem q1884 : (Jvm.Cond.methodLink "CodeLayout$Writing" (243 : Nat) ({ cls := "java/lang/System", name := "arraycopy", desc := "(Ljava/lang/Object;ILjava/lang/Object;II)V" } : Jvm.MethodName)) ∈ lw_all := lw_g (lw_at lw_m7 219 rfl) rfl
theorem q1885 : (Jvm.Cond.methodLink "CodeLayout$Writing" (238 : Nat) ({ cls := "CodeLayout$Program", name := "wordAt", desc := "(J)I" } : Jvm.MethodName)) ∈ lw_all := lw_g (lw_at lw_m7 220 rfl) rfl
theorem q1886 : (Jvm.Cond.methodLink "CodeLayout$Writing" (253 : Nat) ({ cls := "CodeLayout$Writing", name := "set", desc := "(IJI)V" } : Jvm.MethodName)) ∈ lw_all := lw_g (lw_at lw_m7 221 rfl) rfl
theorem q1888 : (Jvm.Cond.instanceMethod ({ cls := "CodeLayout$Writing", name := "set", desc := "(IJI)V" } : Jvm.MethodName)) ∈ lw_all := lw_g (lw_at lw_m7 223 rfl) rfl
theorem q1889 : (Jvm.Cond.code ({ cls := "CodeLayout$Writing", name := "set", desc := "(IJI)V" } : Jvm.MethodName) prog_14_method_23_code (6 : Nat) (Option.none : Option Jvm.ClassFile.FieldType)) ∈ lw_all := lw_g (lw_at lw_m7 224 rfl) rfl
theorem q1890 : (Jvm.Cond.methodLink "CodeLayout$Writing" (260 : Nat) ({ cls := "CodeLayout$Shape", name := "last", desc := "()I" } : Jvm.MethodName)) ∈ lw_all := lw_g (lw_at lw_m7 225 rfl) rfl
theorem q1891 : (Jvm.Cond.methodLink "CodeLayout$Writing" (269 : Nat) ({ cls := "CodeLayout$Shape", name := "headOf", desc := "(I)I" } : Jvm.MethodName)) ∈ lw_all := lw_g (lw_at lw_m7 226 rfl) rfl
theorem q1892 : (Jvm.Cond.methodLink "CodeLayout$Writing" (275 : Nat) ({ cls := "CodeLayout$Shape", name := "symbolCount", desc := "()I" } : Jvm.MethodName)) ∈ lw_all := lw_g (lw_at lw_m7 227 rfl) rfl
theorem q1893 : (Jvm.Cond.methodLink "CodeLayout$Writing" (278 : Nat) ({ cls := "CodeLayout$Shape", name := "isTextSymbol", desc := "(I)Z" } : Jvm.MethodName)) ∈ lw_all := lw_g (lw_at lw_m7 228 rfl) rfl
theorem q1894 : (Jvm.Cond.instanceMethod ({ cls := "CodeLayout$Shape", name := "isTextSymbol", desc := "(I)Z" } : Jvm.MethodName)) ∈ lw_all := lw_g (lw_at lw_m7 229 rfl) rfl
theorem q1895 : (Jvm.Cond.selects "CodeLayout$Shape" ({ cls := "CodeLayout$Shape", name := "isTextSymbol", desc := "(I)Z" } : Jvm.MethodName) ({ cls := "CodeLayout$Shape", name := "isTextSymbol", desc := "(I)Z" } : Jvm.MethodName)) ∈ lw_all := lw_g (lw_at lw_m7 230 rfl) rfl
theorem q1896 : (Jvm.Cond.code ({ cls := "CodeLayout$Shape", name := "isTextSymbol", desc := "(I)Z" } : Jvm.MethodName) prog_10_method_22_code (2 : Nat) (Option.some Jvm.ClassFile.FieldType.boolean)) ∈ lw_all := lw_g (lw_at lw_m7 231 rfl) rfl
theorem q1897 : (Jvm.Cond.methodLink "CodeLayout$Writing" (281 : Nat) ({ cls := "CodeLayout$Shape", name := "symbolAt", desc := "(I)I" } : Jvm.MethodName)) ∈ lw_all := lw_g (lw_at lw_m7 232 rfl) rfl
theorem q1898 : (Jvm.Cond.methodLink "CodeLayout$Writing" (284 : Nat) ({ cls := "CodeLayout$Shape", name := "valueOf", desc := "(I)J" } : Jvm.MethodName)) ∈ lw_all := lw_g (lw_at lw_m7 233 rfl) rfl
theorem q1899 : (Jvm.Cond.methodLink "CodeLayout$Writing" (287 : Nat) ({ cls := "CodeLayout$Writing", name := "newOf", desc := "(J)J" } : Jvm.MethodName)) ∈ lw_all := lw_g (lw_at lw_m7 234 rfl) rfl
theorem q1901 : (Jvm.Cond.instanceMethod ({ cls := "CodeLayout$Writing", name := "newOf", desc := "(J)J" } : Jvm.MethodName)) ∈ lw_all := lw_g (lw_at lw_m7 236 rfl) rfl
theorem q1902 : (Jvm.Cond.code ({ cls := "CodeLayout$Writing", name := "newOf", desc := "(J)J" } : Jvm.MethodName) prog_14_method_24_code (3 : Nat) (Option.some Jvm.ClassFile.FieldType.long)) ∈ lw_all := lw_g (lw_at lw_m7 237 rfl) rfl
theorem q1903 : (Jvm.Cond.methodLink "CodeLayout$Writing" (235 : Nat) ({ cls := "CodeLayout$Shape", name := "end", desc := "()J" } : Jvm.MethodName)) ∈ lw_all := lw_g (lw_at lw_m7 238 rfl) rfl
theorem q1904 : (Jvm.Cond.methodLink "CodeLayout$Writing" (291 : Nat) ({ cls := "CodeLayout$Program", name := "functionCount", desc := "()I" } : Jvm.MethodName)) ∈ lw_all := lw_g (lw_at lw_m7 239 rfl) rfl
theorem q1905 : (Jvm.Cond.methodLink "CodeLayout$Writing" (297 : Nat) ({ cls := "CodeLayout$Writing", name := "partOf", desc := "(I)I" } : Jvm.MethodName)) ∈ lw_all := lw_g (lw_at lw_m8 0 rfl) rfl
theorem q1907 : (Jvm.Cond.instanceMethod ({ cls := "CodeLayout$Writing", name := "partOf", desc := "(I)I" } : Jvm.MethodName)) ∈ lw_all := lw_g (lw_at lw_m8 2 rfl) rfl
theorem q1908 : (Jvm.Cond.code ({ cls := "CodeLayout$Writing", name := "partOf", desc := "(I)I" } : Jvm.MethodName) prog_14_method_26_code (6 : Nat) (Option.some Jvm.ClassFile.FieldType.int)) ∈ lw_all := lw_g (lw_at lw_m8 3 rfl) rfl
theorem q1909 : (Jvm.Cond.methodLink "CodeLayout$Writing" (312 : Nat) ({ cls := "CodeLayout$Program", name := "firstBlock", desc := "(I)I" } : Jvm.MethodName)) ∈ lw_all := lw_g (lw_at lw_m8 4 rfl) rfl
theorem q1910 : (Jvm.Cond.methodLink "CodeLayout$Writing" (315 : Nat) ({ cls := "CodeLayout$Writing", name := "isCold", desc := "(I)Z" } : Jvm.MethodName)) ∈ lw_all := lw_g (lw_at lw_m8 5 rfl) rfl
theorem q1912 : (Jvm.Cond.instanceMethod ({ cls := "CodeLayout$Writing", name := "isCold", desc := "(I)Z" } : Jvm.MethodName)) ∈ lw_all := lw_g (lw_at lw_m8 7 rfl) rfl
theorem q1913 : (Jvm.Cond.code ({ cls := "CodeLayout$Writing", name := "isCold", desc := "(I)Z" } : Jvm.MethodName) prog_14_method_27_code (2 : Nat) (Option.some Jvm.ClassFile.FieldType.boolean)) ∈ lw_all := lw_g (lw_at lw_m8 8 rfl) rfl
theorem q1914 : (Jvm.Cond.methodLink "CodeLayout$Writing" (318 : Nat) ({ cls := "CodeLayout$Program", name := "blockCount", desc := "(I)I" } : Jvm.MethodName)) ∈ lw_all := lw_g (lw_at lw_m8 9 rfl) rfl
theorem q1915 : (Jvm.Cond.methodLink "CodeLayout$Writing" (303 : Nat) ({ cls := "CodeLayout$Shape", name := "fixCount", desc := "(I)I" } : Jvm.MethodName)) ∈ lw_all := lw_g (lw_at lw_m8 10 rfl) rfl
theorem q1916 : (Jvm.Cond.methodLink "CodeLayout$Writing" (306 : Nat) ({ cls := "CodeLayout$Shape", name := "fixAt", desc := "(II)I" } : Jvm.MethodName)) ∈ lw_all := lw_g (lw_at lw_m8 11 rfl) rfl
theorem q1917 : (Jvm.Cond.methodLink "CodeLayout$Writing" (309 : Nat) ({ cls := "CodeLayout$Writing", name := "fix", desc := "(II)V" } : Jvm.MethodName)) ∈ lw_all := lw_g (lw_at lw_m8 12 rfl) rfl
theorem q1919 : (Jvm.Cond.instanceMethod ({ cls := "CodeLayout$Writing", name := "fix", desc := "(II)V" } : Jvm.MethodName)) ∈ lw_all := lw_g (lw_at lw_m8 14 rfl) rfl
theorem q1920 : (Jvm.Cond.code ({ cls := "CodeLayout$Writing", name := "fix", desc := "(II)V" } : Jvm.MethodName) prog_14_method_28_code (12 : Nat) (Option.none : Option Jvm.ClassFile.FieldType)) ∈ lw_all := lw_g (lw_at lw_m8 15 rfl) rfl
theorem q1921 : (Jvm.Cond.methodLink "CodeLayout$Writing" (321 : Nat) ({ cls := "CodeLayout$Shape", name := "isText", desc := "(J)Z" } : Jvm.MethodName)) ∈ lw_all := lw_g (lw_at lw_m8 16 rfl) rfl
theorem q1922 : (Jvm.Cond.methodLink "CodeLayout$Writing" (325 : Nat) ({ cls := "CodeLayout$Shape", name := "fixPlace", desc := "(I)J" } : Jvm.MethodName)) ∈ lw_all := lw_g (lw_at lw_m8 17 rfl) rfl
theorem q1923 : (Jvm.Cond.methodLink "CodeLayout$Writing" (335 : Nat) ({ cls := "CodeLayout$Shape", name := "fixSymbol", desc := "(I)I" } : Jvm.MethodName)) ∈ lw_all := lw_g (lw_at lw_m8 18 rfl) rfl
theorem q1924 : (Jvm.Cond.methodLink "CodeLayoutLaw" (66 : Nat) ({ cls := "CodeLayout", name := "order", desc := "(I)I" } : Jvm.MethodName)) ∈ lw_all := lw_g (lw_at lw_m8 19 rfl) rfl
theorem q1925 : (Jvm.Cond.instanceMethod ({ cls := "CodeLayout", name := "order", desc := "(I)I" } : Jvm.MethodName)) ∈ lw_all := lw_g (lw_at lw_m8 20 rfl) rfl
theorem q1926 : (Jvm.Cond.selects "CodeLayout" ({ cls := "CodeLayout", name := "order", desc := "(I)I" } : Jvm.MethodName) ({ cls := "CodeLayout", name := "order", desc := "(I)I" } : Jvm.MethodName)) ∈ lw_all := lw_g (lw_at lw_m8 21 rfl) rfl
theorem q1927 : (Jvm.Cond.code ({ cls := "CodeLayout", name := "order", desc := "(I)I" } : Jvm.MethodName) prog_1_method_22_code (2 : Nat) (Option.some Jvm.ClassFile.FieldType.int)) ∈ lw_all := lw_g (lw_at lw_m8 22 rfl) rfl
theorem q1928 : (Jvm.Cond.methodLink "CodeLayoutLaw" (70 : Nat) ({ cls := "CodeLayout", name := "laid", desc := "(I)I" } : Jvm.MethodName)) ∈ lw_all := lw_g (lw_at lw_m8 23 rfl) rfl
theorem q1929 : (Jvm.Cond.instanceMethod ({ cls := "CodeLayout", name := "laid", desc := "(I)I" } : Jvm.MethodName)) ∈ lw_all := lw_g (lw_at lw_m8 24 rfl) rfl
theorem q1930 : (Jvm.Cond.selects "CodeLayout" ({ cls := "CodeLayout", name := "laid", desc := "(I)I" } : Jvm.MethodName) ({ cls := "CodeLayout", name := "laid", desc := "(I)I" } : Jvm.MethodName)) ∈ lw_all := lw_g (lw_at lw_m8 25 rfl) rfl
theorem q1931 : (Jvm.Cond.code ({ cls := "CodeLayout", name := "laid", desc := "(I)I" } : Jvm.MethodName) prog_1_method_23_code (2 : Nat) (Option.some Jvm.ClassFile.FieldType.int)) ∈ lw_all := lw_g (lw_at lw_m8 26 rfl) rfl
theorem q1932 : (Jvm.Cond.methodLink "CodeLayoutLaw" (74 : Nat) ({ cls := "CodeLayout", name := "weight", desc := "(II)J" } : Jvm.MethodName)) ∈ lw_all := lw_g (lw_at lw_m8 27 rfl) rfl
theorem q1933 : (Jvm.Cond.instanceMethod ({ cls := "CodeLayout", name := "weight", desc := "(II)J" } : Jvm.MethodName)) ∈ lw_all := lw_g (lw_at lw_m8 28 rfl) rfl
theorem q1934 : (Jvm.Cond.selects "CodeLayout" ({ cls := "CodeLayout", name := "weight", desc := "(II)J" } : Jvm.MethodName) ({ cls := "CodeLayout", name := "weight", desc := "(II)J" } : Jvm.MethodName)) ∈ lw_all := lw_g (lw_at lw_m8 29 rfl) rfl
theorem q1935 : (Jvm.Cond.code ({ cls := "CodeLayout", name := "weight", desc := "(II)J" } : Jvm.MethodName) prog_1_method_24_code (3 : Nat) (Option.some Jvm.ClassFile.FieldType.long)) ∈ lw_all := lw_g (lw_at lw_m8 30 rfl) rfl
theorem q1936 : (Jvm.Cond.methodLink "CodeLayout" (334 : Nat) ({ cls := "CodeLayout$Ordering", name := "weight", desc := "(IZ)J" } : Jvm.MethodName)) ∈ lw_all := lw_g (lw_at lw_m8 31 rfl) rfl
theorem q1937 : (Jvm.Cond.instanceMethod ({ cls := "CodeLayout$Ordering", name := "weight", desc := "(IZ)J" } : Jvm.MethodName)) ∈ lw_all := lw_g (lw_at lw_m8 32 rfl) rfl
theorem q1938 : (Jvm.Cond.selects "CodeLayout$Ordering" ({ cls := "CodeLayout$Ordering", name := "weight", desc := "(IZ)J" } : Jvm.MethodName) ({ cls := "CodeLayout$Ordering", name := "weight", desc := "(IZ)J" } : Jvm.MethodName)) ∈ lw_all := lw_g (lw_at lw_m8 33 rfl) rfl
theorem q1939 : (Jvm.Cond.code ({ cls := "CodeLayout$Ordering", name := "weight", desc := "(IZ)J" } : Jvm.MethodName) prog_7_method_11_code (3 : Nat) (Option.some Jvm.ClassFile.FieldType.long)) ∈ lw_all := lw_g (lw_at lw_m8 34 rfl) rfl
theorem q1940 : (Jvm.Cond.methodLink "CodeLayoutLaw" (78 : Nat) ({ cls := "CodeLayout", name := "moved", desc := "(J)J" } : Jvm.MethodName)) ∈ lw_all := lw_g (lw_at lw_m8 35 rfl) rfl
theorem q1941 : (Jvm.Cond.instanceMethod ({ cls := "CodeLayout", name := "moved", desc := "(J)J" } : Jvm.MethodName)) ∈ lw_all := lw_g (lw_at lw_m8 36 rfl) rfl
theorem q1942 : (Jvm.Cond.selects "CodeLayout" ({ cls := "CodeLayout", name := "moved", desc := "(J)J" } : Jvm.MethodName) ({ cls := "CodeLayout", name := "moved", desc := "(J)J" } : Jvm.MethodName)) ∈ lw_all := lw_g (lw_at lw_m8 37 rfl) rfl
theorem q1943 : (Jvm.Cond.code ({ cls := "CodeLayout", name := "moved", desc := "(J)J" } : Jvm.MethodName) prog_1_method_25_code (4 : Nat) (Option.some Jvm.ClassFile.FieldType.long)) ∈ lw_all := lw_g (lw_at lw_m8 38 rfl) rfl
theorem q1944 : (Jvm.Cond.methodLink "CodeLayout" (338 : Nat) ({ cls := "CodeLayout$Writing", name := "movedWord", desc := "(I)J" } : Jvm.MethodName)) ∈ lw_all := lw_g (lw_at lw_m8 39 rfl) rfl
theorem q1945 : (Jvm.Cond.methodLink "CodeLayoutLaw" (83 : Nat) ({ cls := "CodeLayout", name := "size", desc := "()I" } : Jvm.MethodName)) ∈ lw_all := lw_g (lw_at lw_m8 40 rfl) rfl
theorem q1946 : (Jvm.Cond.instanceMethod ({ cls := "CodeLayout", name := "size", desc := "()I" } : Jvm.MethodName)) ∈ lw_all := lw_g (lw_at lw_m8 41 rfl) rfl
theorem q1947 : (Jvm.Cond.selects "CodeLayout" ({ cls := "CodeLayout", name := "size", desc := "()I" } : Jvm.MethodName) ({ cls := "CodeLayout", name := "size", desc := "()I" } : Jvm.MethodName)) ∈ lw_all := lw_g (lw_at lw_m8 42 rfl) rfl
theorem q1948 : (Jvm.Cond.code ({ cls := "CodeLayout", name := "size", desc := "()I" } : Jvm.MethodName) prog_1_method_26_code (1 : Nat) (Option.some Jvm.ClassFile.FieldType.int)) ∈ lw_all := lw_g (lw_at lw_m8 43 rfl) rfl
theorem q1949 : (Jvm.Cond.methodLink "CodeLayout" (341 : Nat) ({ cls := "CodeLayout$Writing", name := "size", desc := "()I" } : Jvm.MethodName)) ∈ lw_all := lw_g (lw_at lw_m8 44 rfl) rfl
theorem q1950 : (Jvm.Cond.methodLink "CodeLayoutLaw" (87 : Nat) ({ cls := "CodeLayout", name := "out", desc := "(I)I" } : Jvm.MethodName)) ∈ lw_all := lw_g (lw_at lw_m8 45 rfl) rfl
theorem q1951 : (Jvm.Cond.instanceMethod ({ cls := "CodeLayout", name := "out", desc := "(I)I" } : Jvm.MethodName)) ∈ lw_all := lw_g (lw_at lw_m8 46 rfl) rfl
theorem q1952 : (Jvm.Cond.selects "CodeLayout" ({ cls := "CodeLayout", name := "out", desc := "(I)I" } : Jvm.MethodName) ({ cls := "CodeLayout", name := "out", desc := "(I)I" } : Jvm.MethodName)) ∈ lw_all := lw_g (lw_at lw_m8 47 rfl) rfl
theorem q1953 : (Jvm.Cond.code ({ cls := "CodeLayout", name := "out", desc := "(I)I" } : Jvm.MethodName) prog_1_method_27_code (2 : Nat) (Option.some Jvm.ClassFile.FieldType.int)) ∈ lw_all := lw_g (lw_at lw_m8 48 rfl) rfl
theorem q1954 : (Jvm.Cond.methodLink "CodeLayout" (342 : Nat) ({ cls := "CodeLayout$Writing", name := "at", desc := "(I)I" } : Jvm.MethodName)) ∈ lw_all := lw_g (lw_at lw_m8 49 rfl) rfl
theorem q1955 : (Jvm.Cond.methodLink "CodeLayoutLaw" (91 : Nat) ({ cls := "CodeLayout", name := "check", desc := "()I" } : Jvm.MethodName)) ∈ lw_all := lw_g (lw_at lw_m8 50 rfl) rfl
theorem q1956 : (Jvm.Cond.instanceMethod ({ cls := "CodeLayout", name := "check", desc := "()I" } : Jvm.MethodName)) ∈ lw_all := lw_g (lw_at lw_m8 51 rfl) rfl
theorem q1957 : (Jvm.Cond.selects "CodeLayout" ({ cls := "CodeLayout", name := "check", desc := "()I" } : Jvm.MethodName) ({ cls := "CodeLayout", name := "check", desc := "()I" } : Jvm.MethodName)) ∈ lw_all := lw_g (lw_at lw_m8 52 rfl) rfl
theorem q1958 : (Jvm.Cond.codeWith ({ cls := "CodeLayout", name := "check", desc := "()I" } : Jvm.MethodName) prog_1_method_28_code (2 : Nat) (Option.some Jvm.ClassFile.FieldType.int) [((10 : Nat), (21 : Nat), (24 : Nat), (120 : Nat))]) ∈ lw_all := lw_g (lw_at lw_m8 53 rfl) rfl
theorem q1959 : (Jvm.Cond.methodLink "CodeLayout" (345 : Nat) ({ cls := "CodeLayout$Shape", name := "take", desc := "(LCodeLayout$Source;)V" } : Jvm.MethodName)) ∈ lw_all := lw_g (lw_at lw_m8 54 rfl) rfl
theorem q1960 : (Jvm.Cond.methodLink "CodeLayoutLaw" (95 : Nat) ({ cls := "CodeLayout", name := "same", desc := "()Z" } : Jvm.MethodName)) ∈ lw_all := lw_g (lw_at lw_m8 55 rfl) rfl
theorem q1961 : (Jvm.Cond.instanceMethod ({ cls := "CodeLayout", name := "same", desc := "()Z" } : Jvm.MethodName)) ∈ lw_all := lw_g (lw_at lw_m8 56 rfl) rfl
theorem q1962 : (Jvm.Cond.selects "CodeLayout" ({ cls := "CodeLayout", name := "same", desc := "()Z" } : Jvm.MethodName) ({ cls := "CodeLayout", name := "same", desc := "()Z" } : Jvm.MethodName)) ∈ lw_all := lw_g (lw_at lw_m8 57 rfl) rfl
theorem q1963 : (Jvm.Cond.code ({ cls := "CodeLayout", name := "same", desc := "()Z" } : Jvm.MethodName) prog_1_method_29_code (3 : Nat) (Option.some Jvm.ClassFile.FieldType.boolean)) ∈ lw_all := lw_g (lw_at lw_m8 58 rfl) rfl
theorem q1964 : (Jvm.Cond.methodLink "CodeLayout" (350 : Nat) ({ cls := "CodeLayout$Held", name := "at", desc := "(I)I" } : Jvm.MethodName)) ∈ lw_all := lw_g (lw_at lw_m8 59 rfl) rfl
theorem q1965 : (Jvm.Cond.methodLink "CodeLayoutLaw" (148 : Nat) ({ cls := "CodeLayout", name := "strays", desc := "()I" } : Jvm.MethodName)) ∈ lw_all := lw_g (lw_at lw_m8 60 rfl) rfl
theorem q1966 : (Jvm.Cond.instanceMethod ({ cls := "CodeLayout", name := "strays", desc := "()I" } : Jvm.MethodName)) ∈ lw_all := lw_g (lw_at lw_m8 61 rfl) rfl
theorem q1967 : (Jvm.Cond.selects "CodeLayout" ({ cls := "CodeLayout", name := "strays", desc := "()I" } : Jvm.MethodName) ({ cls := "CodeLayout", name := "strays", desc := "()I" } : Jvm.MethodName)) ∈ lw_all := lw_g (lw_at lw_m8 62 rfl) rfl
theorem q1968 : (Jvm.Cond.code ({ cls := "CodeLayout", name := "strays", desc := "()I" } : Jvm.MethodName) prog_1_method_30_code (1 : Nat) (Option.some Jvm.ClassFile.FieldType.int)) ∈ lw_all := lw_g (lw_at lw_m8 63 rfl) rfl
theorem q1969 : (Jvm.Cond.methodLink "CodeLayoutLaw" (100 : Nat) ({ cls := "CodeLayout", name := "run", desc := "(II)I" } : Jvm.MethodName)) ∈ lw_all := lw_g (lw_at lw_m8 64 rfl) rfl
theorem q1970 : (Jvm.Cond.instanceMethod ({ cls := "CodeLayout", name := "run", desc := "(II)I" } : Jvm.MethodName)) ∈ lw_all := lw_g (lw_at lw_m8 65 rfl) rfl
theorem q1971 : (Jvm.Cond.selects "CodeLayout" ({ cls := "CodeLayout", name := "run", desc := "(II)I" } : Jvm.MethodName) ({ cls := "CodeLayout", name := "run", desc := "(II)I" } : Jvm.MethodName)) ∈ lw_all := lw_g (lw_at lw_m8 66 rfl) rfl
theorem q1972 : (Jvm.Cond.code ({ cls := "CodeLayout", name := "run", desc := "(II)I" } : Jvm.MethodName) prog_1_method_32_code (3 : Nat) (Option.some Jvm.ClassFile.FieldType.int)) ∈ lw_all := lw_g (lw_at lw_m8 67 rfl) rfl
theorem q1973 : (Jvm.Cond.methodLink "CodeLayout" (351 : Nat) ({ cls := "CodeLayout$Machine", name := "run", desc := "(IZ)I" } : Jvm.MethodName)) ∈ lw_all := lw_g (lw_at lw_m8 68 rfl) rfl
theorem q1974 : (Jvm.Cond.instanceMethod ({ cls := "CodeLayout$Machine", name := "run", desc := "(IZ)I" } : Jvm.MethodName)) ∈ lw_all := lw_g (lw_at lw_m8 69 rfl) rfl
theorem q1975 : (Jvm.Cond.selects "CodeLayout$Machine" ({ cls := "CodeLayout$Machine", name := "run", desc := "(IZ)I" } : Jvm.MethodName) ({ cls := "CodeLayout$Machine", name := "run", desc := "(IZ)I" } : Jvm.MethodName)) ∈ lw_all := lw_g (lw_at lw_m8 70 rfl) rfl
theorem q1976 : (Jvm.Cond.codeWith ({ cls := "CodeLayout$Machine", name := "run", desc := "(IZ)I" } : Jvm.MethodName) prog_5_method_3_code (6 : Nat) (Option.some Jvm.ClassFile.FieldType.int) [((186 : Nat), (277 : Nat), (280 : Nat), (151 : Nat))]) ∈ lw_all := lw_g (lw_at lw_m8 71 rfl) rfl
theorem q1977 : (Jvm.Cond.classLink "CodeLayout$Machine" (151 : Nat) "java/lang/IllegalStateException") ∈ lw_all := lw_g (lw_at lw_m8 72 rfl) rfl
theorem q1978 : (Jvm.Cond.methodLink "CodeLayout$Machine" (71 : Nat) ({ cls := "CodeLayout$Machine", name := "isNew", desc := "()Z" } : Jvm.MethodName)) ∈ lw_all := lw_g (lw_at lw_m8 73 rfl) rfl
theorem q1980 : (Jvm.Cond.instanceMethod ({ cls := "CodeLayout$Machine", name := "isNew", desc := "()Z" } : Jvm.MethodName)) ∈ lw_all := lw_g (lw_at lw_m8 75 rfl) rfl
theorem q1981 : (Jvm.Cond.code ({ cls := "CodeLayout$Machine", name := "isNew", desc := "()Z" } : Jvm.MethodName) prog_5_method_2_code (1 : Nat) (Option.some Jvm.ClassFile.FieldType.boolean)) ∈ lw_all := lw_g (lw_at lw_m8 76 rfl) rfl
theorem q1982 : (Jvm.Cond.methodLink "CodeLayout$Machine" (81 : Nat) ({ cls := "CodeLayout$Memory", name := "begin", desc := "(LCodeLayout$Source;)V" } : Jvm.MethodName)) ∈ lw_all := lw_g (lw_at lw_m8 77 rfl) rfl
theorem q1983 : (Jvm.Cond.instanceMethod ({ cls := "CodeLayout$Memory", name := "begin", desc := "(LCodeLayout$Source;)V" } : Jvm.MethodName)) ∈ lw_all := lw_g (lw_at lw_m8 78 rfl) rfl
theorem q1984 : (Jvm.Cond.selects "CodeLayout$Memory" ({ cls := "CodeLayout$Memory", name := "begin", desc := "(LCodeLayout$Source;)V" } : Jvm.MethodName) ({ cls := "CodeLayout$Memory", name := "begin", desc := "(LCodeLayout$Source;)V" } : Jvm.MethodName)) ∈ lw_all := lw_g (lw_at lw_m8 79 rfl) rfl
theorem q1985 : (Jvm.Cond.code ({ cls := "CodeLayout$Memory", name := "begin", desc := "(LCodeLayout$Source;)V" } : Jvm.MethodName) prog_6_method_6_code (7 : Nat) (Option.none : Option Jvm.ClassFile.FieldType)) ∈ lw_all := lw_g (lw_at lw_m8 80 rfl) rfl
theorem q1986 : (Jvm.Cond.methodLink "CodeLayout$Memory" (66 : Nat) ({ cls := "CodeLayout$Memory", name := "regions", desc := "()I" } : Jvm.MethodName)) ∈ lw_all := lw_g (lw_at lw_m8 81 rfl) rfl
theorem q1988 : (Jvm.Cond.instanceMethod ({ cls := "CodeLayout$Memory", name := "regions", desc := "()I" } : Jvm.MethodName)) ∈ lw_all := lw_g (lw_at lw_m8 83 rfl) rfl
theorem q1989 : (Jvm.Cond.code ({ cls := "CodeLayout$Memory", name := "regions", desc := "()I" } : Jvm.MethodName) prog_6_method_2_code (1 : Nat) (Option.some Jvm.ClassFile.FieldType.int)) ∈ lw_all := lw_g (lw_at lw_m8 84 rfl) rfl
theorem q1990 : (Jvm.Cond.methodLink "CodeLayout$Memory" (69 : Nat) ({ cls := "CodeLayout$Memory", name := "sizeOf", desc := "(I)I" } : Jvm.MethodName)) ∈ lw_all := lw_g (lw_at lw_m8 85 rfl) rfl
theorem q1992 : (Jvm.Cond.instanceMethod ({ cls := "CodeLayout$Memory", name := "sizeOf", desc := "(I)I" } : Jvm.MethodName)) ∈ lw_all := lw_g (lw_at lw_m8 87 rfl) rfl
theorem q1993 : (Jvm.Cond.code ({ cls := "CodeLayout$Memory", name := "sizeOf", desc := "(I)I" } : Jvm.MethodName) prog_6_method_5_code (2 : Nat) (Option.some Jvm.ClassFile.FieldType.int)) ∈ lw_all := lw_g (lw_at lw_m8 88 rfl) rfl
theorem q1994 : (Jvm.Cond.methodLink "CodeLayout$Memory" (53 : Nat) ({ cls := "CodeLayout$Memory", name := "stack", desc := "()I" } : Jvm.MethodName)) ∈ lw_all := lw_g (lw_at lw_m8 89 rfl) rfl
theorem q1996 : (Jvm.Cond.instanceMethod ({ cls := "CodeLayout$Memory", name := "stack", desc := "()I" } : Jvm.MethodName)) ∈ lw_all := lw_g (lw_at lw_m8 91 rfl) rfl
theorem q1997 : (Jvm.Cond.code ({ cls := "CodeLayout$Memory", name := "stack", desc := "()I" } : Jvm.MethodName) prog_6_method_3_code (1 : Nat) (Option.some Jvm.ClassFile.FieldType.int)) ∈ lw_all := lw_g (lw_at lw_m8 92 rfl) rfl
theorem q1998 : (Jvm.Cond.methodLink "CodeLayout$Memory" (49 : Nat) ({ cls := "CodeLayout$Shape", name := "last", desc := "()I" } : Jvm.MethodName)) ∈ lw_all := lw_g (lw_at lw_m8 93 rfl) rfl
theorem q1999 : (Jvm.Cond.constant "CodeLayout$Memory" (62 : Nat) (65536 : Int32)) ∈ lw_all := lw_g (lw_at lw_m8 94 rfl) rfl
theorem q2000 : (Jvm.Cond.methodLink "CodeLayout$Memory" (76 : Nat) ({ cls := "CodeLayout$Source", name := "at", desc := "(I)I" } : Jvm.MethodName)) ∈ lw_all := lw_g (lw_at lw_m8 95 rfl) rfl
theorem q2001 : (Jvm.Cond.constantLong "CodeLayout$Machine" (85 : Nat) (2147483648 : Int64)) ∈ lw_all := lw_g (lw_at lw_m8 96 rfl) rfl
theorem q2002 : (Jvm.Cond.methodLink "CodeLayout$Machine" (111 : Nat) ({ cls := "CodeLayout$Machine", name := "tellCode", desc := "()V" } : Jvm.MethodName)) ∈ lw_all := lw_g (lw_at lw_m8 97 rfl) rfl
theorem q2004 : (Jvm.Cond.instanceMethod ({ cls := "CodeLayout$Machine", name := "tellCode", desc := "()V" } : Jvm.MethodName)) ∈ lw_all := lw_g (lw_at lw_m8 99 rfl) rfl
theorem q2005 : (Jvm.Cond.code ({ cls := "CodeLayout$Machine", name := "tellCode", desc := "()V" } : Jvm.MethodName) prog_5_method_4_code (8 : Nat) (Option.none : Option Jvm.ClassFile.FieldType)) ∈ lw_all := lw_g (lw_at lw_m8 100 rfl) rfl
theorem q2006 : (Jvm.Cond.methodLink "CodeLayout$Machine" (163 : Nat) ({ cls := "CodeLayout$Shape", name := "isData", desc := "(I)Z" } : Jvm.MethodName)) ∈ lw_all := lw_g (lw_at lw_m8 101 rfl) rfl
theorem q2007 : (Jvm.Cond.methodLink "CodeLayout$Machine" (167 : Nat) ({ cls := "CodeLayout$Shape", name := "fixCount", desc := "(I)I" } : Jvm.MethodName)) ∈ lw_all := lw_g (lw_at lw_m8 102 rfl) rfl
theorem q2008 : (Jvm.Cond.methodLink "CodeLayout$Machine" (170 : Nat) ({ cls := "CodeLayout$Shape", name := "fixAt", desc := "(II)I" } : Jvm.MethodName)) ∈ lw_all := lw_g (lw_at lw_m8 103 rfl) rfl
theorem q2009 : (Jvm.Cond.methodLink "CodeLayout$Machine" (174 : Nat) ({ cls := "CodeLayout$Shape", name := "fixType", desc := "(I)I" } : Jvm.MethodName)) ∈ lw_all := lw_g (lw_at lw_m8 104 rfl) rfl
theorem q2010 : (Jvm.Cond.methodLink "CodeLayout$Machine" (177 : Nat) ({ cls := "CodeLayout$Program", name := "targetWord", desc := "(I)I" } : Jvm.MethodName)) ∈ lw_all := lw_g (lw_at lw_m8 105 rfl) rfl
theorem q2011 : (Jvm.Cond.methodLink "CodeLayout$Machine" (180 : Nat) ({ cls := "CodeLayout$Shape", name := "fixPlace", desc := "(I)J" } : Jvm.MethodName)) ∈ lw_all := lw_g (lw_at lw_m8 106 rfl) rfl
theorem q2012 : (Jvm.Cond.methodLink "CodeLayout$Machine" (183 : Nat) ({ cls := "CodeLayout$Memory", name := "regionOf", desc := "(JI)I" } : Jvm.MethodName)) ∈ lw_all := lw_g (lw_at lw_m8 107 rfl) rfl
theorem q2013 : (Jvm.Cond.instanceMethod ({ cls := "CodeLayout$Memory", name := "regionOf", desc := "(JI)I" } : Jvm.MethodName)) ∈ lw_all := lw_g (lw_at lw_m8 108 rfl) rfl
theorem q2014 : (Jvm.Cond.selects "CodeLayout$Memory" ({ cls := "CodeLayout$Memory", name := "regionOf", desc := "(JI)I" } : Jvm.MethodName) ({ cls := "CodeLayout$Memory", name := "regionOf", desc := "(JI)I" } : Jvm.MethodName)) ∈ lw_all := lw_g (lw_at lw_m8 109 rfl) rfl
theorem q2015 : (Jvm.Cond.code ({ cls := "CodeLayout$Memory", name := "regionOf", desc := "(JI)I" } : Jvm.MethodName) prog_6_method_7_code (7 : Nat) (Option.some Jvm.ClassFile.FieldType.int)) ∈ lw_all := lw_g (lw_at lw_m8 110 rfl) rfl
theorem q2016 : (Jvm.Cond.methodLink "CodeLayout$Memory" (81 : Nat) ({ cls := "CodeLayout$Memory", name := "addressOf", desc := "(I)J" } : Jvm.MethodName)) ∈ lw_all := lw_g (lw_at lw_m8 111 rfl) rfl
theorem q2018 : (Jvm.Cond.instanceMethod ({ cls := "CodeLayout$Memory", name := "addressOf", desc := "(I)J" } : Jvm.MethodName)) ∈ lw_all := lw_g (lw_at lw_m8 113 rfl) rfl
theorem q2019 : (Jvm.Cond.code ({ cls := "CodeLayout$Memory", name := "addressOf", desc := "(I)J" } : Jvm.MethodName) prog_6_method_4_code (2 : Nat) (Option.some Jvm.ClassFile.FieldType.long)) ∈ lw_all := lw_g (lw_at lw_m8 114 rfl) rfl
theorem q2020 : (Jvm.Cond.constantLong "CodeLayout$Memory" (56 : Nat) (2147418112 : Int64)) ∈ lw_all := lw_g (lw_at lw_m8 115 rfl) rfl
theorem q2021 : (Jvm.Cond.methodLink "CodeLayout$Machine" (190 : Nat) ({ cls := "CodeLayout$Memory", name := "tell", desc := "(IJII)V" } : Jvm.MethodName)) ∈ lw_all := lw_g (lw_at lw_m8 116 rfl) rfl
theorem q2022 : (Jvm.Cond.instanceMethod ({ cls := "CodeLayout$Memory", name := "tell", desc := "(IJII)V" } : Jvm.MethodName)) ∈ lw_all := lw_g (lw_at lw_m8 117 rfl) rfl
theorem q2023 : (Jvm.Cond.selects "CodeLayout$Memory" ({ cls := "CodeLayout$Memory", name := "tell", desc := "(IJII)V" } : Jvm.MethodName) ({ cls := "CodeLayout$Memory", name := "tell", desc := "(IJII)V" } : Jvm.MethodName)) ∈ lw_all := lw_g (lw_at lw_m8 118 rfl) rfl
theorem q2024 : (Jvm.Cond.code ({ cls := "CodeLayout$Memory", name := "tell", desc := "(IJII)V" } : Jvm.MethodName) prog_6_method_16_code (6 : Nat) (Option.none : Option Jvm.ClassFile.FieldType)) ∈ lw_all := lw_g (lw_at lw_m8 119 rfl) rfl
theorem q2025 : (Jvm.Cond.methodLink "CodeLayout$Memory" (96 : Nat) ({ cls := "CodeLayout$Memory", name := "cellOf", desc := "(IJ)I" } : Jvm.MethodName)) ∈ lw_all := lw_g (lw_at lw_m8 120 rfl) rfl
theorem q2026 : (Jvm.Cond.instanceMethod ({ cls := "CodeLayout$Memory", name := "cellOf", desc := "(IJ)I" } : Jvm.MethodName)) ∈ lw_all := lw_g (lw_at lw_m8 121 rfl) rfl
theorem q2027 : (Jvm.Cond.selects "CodeLayout$Memory" ({ cls := "CodeLayout$Memory", name := "cellOf", desc := "(IJ)I" } : Jvm.MethodName) ({ cls := "CodeLayout$Memory", name := "cellOf", desc := "(IJ)I" } : Jvm.MethodName)) ∈ lw_all := lw_g (lw_at lw_m8 122 rfl) rfl
theorem q2028 : (Jvm.Cond.code ({ cls := "CodeLayout$Memory", name := "cellOf", desc := "(IJ)I" } : Jvm.MethodName) prog_6_method_9_code (4 : Nat) (Option.some Jvm.ClassFile.FieldType.int)) ∈ lw_all := lw_g (lw_at lw_m8 123 rfl) rfl
theorem q2029 : (Jvm.Cond.methodLink "CodeLayout$Machine" (124 : Nat) ({ cls := "CodeLayout$Program", name := "wordAt", desc := "(J)I" } : Jvm.MethodName)) ∈ lw_all := lw_g (lw_at lw_m8 124 rfl) rfl
theorem q2030 : (Jvm.Cond.methodLink "CodeLayout$Machine" (128 : Nat) ({ cls := "CodeLayout$Writing", name := "movedWord", desc := "(I)J" } : Jvm.MethodName)) ∈ lw_all := lw_g (lw_at lw_m8 125 rfl) rfl
theorem q2031 : (Jvm.Cond.methodLink "CodeLayout$Machine" (140 : Nat) ({ cls := "CodeLayout$Machine", name := "blockHere", desc := "()I" } : Jvm.MethodName)) ∈ lw_all := lw_g (lw_at lw_m8 126 rfl) rfl
theorem q2033 : (Jvm.Cond.instanceMethod ({ cls := "CodeLayout$Machine", name := "blockHere", desc := "()I" } : Jvm.MethodName)) ∈ lw_all := lw_g (lw_at lw_m8 128 rfl) rfl
theorem q2034 : (Jvm.Cond.code ({ cls := "CodeLayout$Machine", name := "blockHere", desc := "()I" } : Jvm.MethodName) prog_5_method_7_code (1 : Nat) (Option.some Jvm.ClassFile.FieldType.int)) ∈ lw_all := lw_g (lw_at lw_m8 129 rfl) rfl
theorem q2035 : (Jvm.Cond.methodLink "CodeLayout$Machine" (203 : Nat) ({ cls := "CodeLayout$Machine", name := "blockOf", desc := "(J)I" } : Jvm.MethodName)) ∈ lw_all := lw_g (lw_at lw_m8 130 rfl) rfl
theorem q2037 : (Jvm.Cond.instanceMethod ({ cls := "CodeLayout$Machine", name := "blockOf", desc := "(J)I" } : Jvm.MethodName)) ∈ lw_all := lw_g (lw_at lw_m8 132 rfl) rfl
theorem q2038 : (Jvm.Cond.code ({ cls := "CodeLayout$Machine", name := "blockOf", desc := "(J)I" } : Jvm.MethodName) prog_5_method_8_code (4 : Nat) (Option.some Jvm.ClassFile.FieldType.int)) ∈ lw_all := lw_g (lw_at lw_m8 133 rfl) rfl
theorem q2039 : (Jvm.Cond.methodLink "CodeLayout$Machine" (206 : Nat) ({ cls := "CodeLayout$Machine", name := "begin", desc := "()J" } : Jvm.MethodName)) ∈ lw_all := lw_g (lw_at lw_m8 134 rfl) rfl
theorem q2041 : (Jvm.Cond.instanceMethod ({ cls := "CodeLayout$Machine", name := "begin", desc := "()J" } : Jvm.MethodName)) ∈ lw_all := lw_g (lw_at lw_m8 136 rfl) rfl
theorem q2042 : (Jvm.Cond.code ({ cls := "CodeLayout$Machine", name := "begin", desc := "()J" } : Jvm.MethodName) prog_5_method_5_code (1 : Nat) (Option.some Jvm.ClassFile.FieldType.long)) ∈ lw_all := lw_g (lw_at lw_m8 137 rfl) rfl
theorem q2043 : (Jvm.Cond.methodLink "CodeLayout$Machine" (194 : Nat) ({ cls := "CodeLayout$Program", name := "addressOf", desc := "(I)J" } : Jvm.MethodName)) ∈ lw_all := lw_g (lw_at lw_m8 138 rfl) rfl
theorem q2044 : (Jvm.Cond.methodLink "CodeLayout$Machine" (209 : Nat) ({ cls := "CodeLayout$Machine", name := "bytes", desc := "()I" } : Jvm.MethodName)) ∈ lw_all := lw_g (lw_at lw_m8 139 rfl) rfl
theorem q2046 : (Jvm.Cond.instanceMethod ({ cls := "CodeLayout$Machine", name := "bytes", desc := "()I" } : Jvm.MethodName)) ∈ lw_all := lw_g (lw_at lw_m8 141 rfl) rfl
theorem q2047 : (Jvm.Cond.code ({ cls := "CodeLayout$Machine", name := "bytes", desc := "()I" } : Jvm.MethodName) prog_5_method_6_code (1 : Nat) (Option.some Jvm.ClassFile.FieldType.int)) ∈ lw_all := lw_g (lw_at lw_m8 142 rfl) rfl
theorem q2048 : (Jvm.Cond.methodLinkNest "CodeLayout$Machine" (211 : Nat) ({ cls := "CodeLayout", name := "isIn", desc := "(JJJ)Z" } : Jvm.MethodName) "CodeLayout") ∈ lw_tbl := lw_at lw_m8 143 rfl
theorem q2049 : (Jvm.Cond.constantLong "CodeLayout$Machine" (215 : Nat) (4 : Int64)) ∈ lw_all := lw_g (lw_at lw_m8 144 rfl) rfl
theorem q2050 : (Jvm.Cond.methodLink "CodeLayout$Machine" (217 : Nat) ({ cls := "CodeLayout$Machine", name := "blockFrom", desc := "(IZ)I" } : Jvm.MethodName)) ∈ lw_all := lw_g (lw_at lw_m8 145 rfl) rfl
theorem q2052 : (Jvm.Cond.instanceMethod ({ cls := "CodeLayout$Machine", name := "blockFrom", desc := "(IZ)I" } : Jvm.MethodName)) ∈ lw_all := lw_g (lw_at lw_m8 147 rfl) rfl
theorem q2053 : (Jvm.Cond.code ({ cls := "CodeLayout$Machine", name := "blockFrom", desc := "(IZ)I" } : Jvm.MethodName) prog_5_method_9_code (6 : Nat) (Option.some Jvm.ClassFile.FieldType.int)) ∈ lw_all := lw_g (lw_at lw_m8 148 rfl) rfl
theorem q2054 : (Jvm.Cond.methodLink "CodeLayout$Machine" (144 : Nat) ({ cls := "CodeLayout$Program", name := "wordsOf", desc := "(I)I" } : Jvm.MethodName)) ∈ lw_all := lw_g (lw_at lw_m8 149 rfl) rfl
theorem q2055 : (Jvm.Cond.methodLink "CodeLayout$Machine" (148 : Nat) ({ cls := "CodeLayout$Machine", name := "step", desc := "()V" } : Jvm.MethodName)) ∈ lw_all := lw_g (lw_at lw_m8 150 rfl) rfl
theorem q2057 : (Jvm.Cond.instanceMethod ({ cls := "CodeLayout$Machine", name := "step", desc := "()V" } : Jvm.MethodName)) ∈ lw_all := lw_g (lw_at lw_m8 152 rfl) rfl
theorem q2058 : (Jvm.Cond.code ({ cls := "CodeLayout$Machine", name := "step", desc := "()V" } : Jvm.MethodName) prog_5_method_22_code (12 : Nat) (Option.none : Option Jvm.ClassFile.FieldType)) ∈ lw_all := lw_g (lw_at lw_m8 153 rfl) rfl
theorem q2059 : (Jvm.Cond.methodLink "CodeLayout$Machine" (260 : Nat) ({ cls := "CodeLayout$Machine", name := "isText", desc := "(J)Z" } : Jvm.MethodName)) ∈ lw_all := lw_g (lw_at lw_m8 154 rfl) rfl
theorem q2061 : (Jvm.Cond.instanceMethod ({ cls := "CodeLayout$Machine", name := "isText", desc := "(J)Z" } : Jvm.MethodName)) ∈ lw_all := lw_g (lw_at lw_m8 156 rfl) rfl
theorem q2062 : (Jvm.Cond.code ({ cls := "CodeLayout$Machine", name := "isText", desc := "(J)Z" } : Jvm.MethodName) prog_5_method_11_code (3 : Nat) (Option.some Jvm.ClassFile.FieldType.boolean)) ∈ lw_all := lw_g (lw_at lw_m8 157 rfl) rfl
theorem q2063 : (Jvm.Cond.methodLink "CodeLayout$Machine" (247 : Nat) ({ cls := "CodeLayout$Halt", name := "by", desc := "(I)Ljava/lang/IllegalStateException;" } : Jvm.MethodName)) ∈ lw_all := lw_g (lw_at lw_m8 158 rfl) rfl
theorem q2064 : (Jvm.Cond.instanceMethod ({ cls := "CodeLayout$Halt", name := "by", desc := "(I)Ljava/lang/IllegalStateException;" } : Jvm.MethodName)) ∈ lw_all := lw_g (lw_at lw_m8 159 rfl) rfl
theorem q2065 : (Jvm.Cond.selects "CodeLayout$Halt" ({ cls := "CodeLayout$Halt", name := "by", desc := "(I)Ljava/lang/IllegalStateException;" } : Jvm.MethodName) ({ cls := "CodeLayout$Halt", name := "by", desc := "(I)Ljava/lang/IllegalStateException;" } : Jvm.MethodName)) ∈ lw_all := lw_g (lw_at lw_m8 160 rfl) rfl
theorem q2066 : (Jvm.Cond.code ({ cls := "CodeLayout$Halt", name := "by", desc := "(I)Ljava/lang/IllegalStateException;" } : Jvm.MethodName) prog_3_method_2_code (2 : Nat) (Option.some (Jvm.ClassFile.FieldType.object "java/lang/IllegalStateException"))) ∈ lw_all := lw_g (lw_at lw_m8 161 rfl) rfl
theorem q2067 : (Jvm.Cond.methodLink "CodeLayout$Machine" (264 : Nat) ({ cls := "CodeLayout$Writing", name := "wordAt", desc := "(I)I" } : Jvm.MethodName)) ∈ lw_all := lw_g (lw_at lw_m8 162 rfl) rfl
theorem q2068 : (Jvm.Cond.methodLink "CodeLayout$Machine" (269 : Nat) ({ cls := "CodeLayout$Words", name := "kindOf", desc := "(I)I" } : Jvm.MethodName)) ∈ lw_all := lw_g (lw_at lw_m8 163 rfl) rfl
theorem q2069 : (Jvm.Cond.methodLink "CodeLayout$Machine" (277 : Nat) ({ cls := "CodeLayout$Machine", name := "addNumber", desc := "(II)V" } : Jvm.MethodName)) ∈ lw_all := lw_g (lw_at lw_m8 164 rfl) rfl
theorem q2071 : (Jvm.Cond.instanceMethod ({ cls := "CodeLayout$Machine", name := "addNumber", desc := "(II)V" } : Jvm.MethodName)) ∈ lw_all := lw_g (lw_at lw_m8 166 rfl) rfl
theorem q2072 : (Jvm.Cond.code ({ cls := "CodeLayout$Machine", name := "addNumber", desc := "(II)V" } : Jvm.MethodName) prog_5_method_27_code (12 : Nat) (Option.none : Option Jvm.ClassFile.FieldType)) ∈ lw_all := lw_g (lw_at lw_m8 167 rfl) rfl
theorem q2073 : (Jvm.Cond.methodLink "CodeLayout$Machine" (294 : Nat) ({ cls := "CodeLayout$Words", name := "n", desc := "(I)I" } : Jvm.MethodName)) ∈ lw_all := lw_g (lw_at lw_m8 168 rfl) rfl
theorem q2074 : (Jvm.Cond.methodLink "CodeLayout$Machine" (251 : Nat) ({ cls := "CodeLayout$Machine", name := "must", desc := "(Z)V" } : Jvm.MethodName)) ∈ lw_all := lw_g (lw_at lw_m8 169 rfl) rfl
theorem q2076 : (Jvm.Cond.instanceMethod ({ cls := "CodeLayout$Machine", name := "must", desc := "(Z)V" } : Jvm.MethodName)) ∈ lw_all := lw_g (lw_at lw_m8 171 rfl) rfl
theorem q2077 : (Jvm.Cond.code ({ cls := "CodeLayout$Machine", name := "must", desc := "(Z)V" } : Jvm.MethodName) prog_5_method_13_code (2 : Nat) (Option.none : Option Jvm.ClassFile.FieldType)) ∈ lw_all := lw_g (lw_at lw_m8 172 rfl) rfl
theorem q2078 : (Jvm.Cond.methodLink "CodeLayout$Machine" (306 : Nat) ({ cls := "CodeLayout$Words", name := "d", desc := "(I)I" } : Jvm.MethodName)) ∈ lw_all := lw_g (lw_at lw_m8 173 rfl) rfl
theorem q2079 : (Jvm.Cond.methodLink "CodeLayout$Machine" (356 : Nat) ({ cls := "CodeLayout$Machine", name := "code", desc := "(IJII)V" } : Jvm.MethodName)) ∈ lw_all := lw_g (lw_at lw_m8 174 rfl) rfl
theorem q2081 : (Jvm.Cond.instanceMethod ({ cls := "CodeLayout$Machine", name := "code", desc := "(IJII)V" } : Jvm.MethodName)) ∈ lw_all := lw_g (lw_at lw_m8 176 rfl) rfl
theorem q2082 : (Jvm.Cond.code ({ cls := "CodeLayout$Machine", name := "code", desc := "(IJII)V" } : Jvm.MethodName) prog_5_method_19_code (6 : Nat) (Option.none : Option Jvm.ClassFile.FieldType)) ∈ lw_all := lw_g (lw_at lw_m8 177 rfl) rfl
theorem q2083 : (Jvm.Cond.methodLink "CodeLayout$Machine" (325 : Nat) ({ cls := "CodeLayout$Words", name := "twelve", desc := "(I)I" } : Jvm.MethodName)) ∈ lw_all := lw_g (lw_at lw_m8 178 rfl) rfl
theorem q2084 : (Jvm.Cond.methodLink "CodeLayout$Machine" (309 : Nat) ({ cls := "CodeLayout$Words", name := "isLong", desc := "(I)Z" } : Jvm.MethodName)) ∈ lw_all := lw_g (lw_at lw_m8 179 rfl) rfl
theorem q2085 : (Jvm.Cond.methodLink "CodeLayout$Machine" (322 : Nat) ({ cls := "CodeLayout$Machine", name := "base", desc := "(I)J" } : Jvm.MethodName)) ∈ lw_all := lw_g (lw_at lw_m8 180 rfl) rfl
theorem q2087 : (Jvm.Cond.instanceMethod ({ cls := "CodeLayout$Machine", name := "base", desc := "(I)J" } : Jvm.MethodName)) ∈ lw_all := lw_g (lw_at lw_m8 182 rfl) rfl
theorem q2088 : (Jvm.Cond.code ({ cls := "CodeLayout$Machine", name := "base", desc := "(I)J" } : Jvm.MethodName) prog_5_method_16_code (2 : Nat) (Option.some Jvm.ClassFile.FieldType.long)) ∈ lw_all := lw_g (lw_at lw_m8 183 rfl) rfl
theorem q2089 : (Jvm.Cond.constantLong "CodeLayout$Machine" (258 : Nat) (4294967295 : Int64)) ∈ lw_all := lw_g (lw_at lw_m8 184 rfl) rfl
theorem q2090 : (Jvm.Cond.methodLink "CodeLayout$Machine" (373 : Nat) ({ cls := "CodeLayout$Machine", name := "sum", desc := "(JJZZZ)J" } : Jvm.MethodName)) ∈ lw_all := lw_g (lw_at lw_m8 185 rfl) rfl
theorem q2092 : (Jvm.Cond.instanceMethod ({ cls := "CodeLayout$Machine", name := "sum", desc := "(JJZZZ)J" } : Jvm.MethodName)) ∈ lw_all := lw_g (lw_at lw_m8 187 rfl) rfl
theorem q2093 : (Jvm.Cond.code ({ cls := "CodeLayout$Machine", name := "sum", desc := "(JJZZZ)J" } : Jvm.MethodName) prog_5_method_26_code (16 : Nat) (Option.some Jvm.ClassFile.FieldType.long)) ∈ lw_all := lw_g (lw_at lw_m8 188 rfl) rfl
theorem q2094 : (Jvm.Cond.methodLinkNest "CodeLayout$Machine" (366 : Nat) ({ cls := "CodeLayout", name := "isAbove", desc := "(JJ)Z" } : Jvm.MethodName) "CodeLayout") ∈ lw_tbl := lw_at lw_m8 189 rfl
theorem q2095 : (Jvm.Cond.methodLink "CodeLayout$Machine" (312 : Nat) ({ cls := "CodeLayout$Machine", name := "put", desc := "(IJZ)V" } : Jvm.MethodName)) ∈ lw_all := lw_g (lw_at lw_m8 190 rfl) rfl
theorem q2097 : (Jvm.Cond.instanceMethod ({ cls := "CodeLayout$Machine", name := "put", desc := "(IJZ)V" } : Jvm.MethodName)) ∈ lw_all := lw_g (lw_at lw_m8 192 rfl) rfl
theorem q2098 : (Jvm.Cond.code ({ cls := "CodeLayout$Machine", name := "put", desc := "(IJZ)V" } : Jvm.MethodName) prog_5_method_17_code (5 : Nat) (Option.none : Option Jvm.ClassFile.FieldType)) ∈ lw_all := lw_g (lw_at lw_m8 193 rfl) rfl
theorem q2099 : (Jvm.Cond.methodLink "CodeLayout$Machine" (377 : Nat) ({ cls := "CodeLayout$Machine", name := "putBase", desc := "(IJZ)V" } : Jvm.MethodName)) ∈ lw_all := lw_g (lw_at lw_m8 194 rfl) rfl
theorem q2101 : (Jvm.Cond.instanceMethod ({ cls := "CodeLayout$Machine", name := "putBase", desc := "(IJZ)V" } : Jvm.MethodName)) ∈ lw_all := lw_g (lw_at lw_m8 196 rfl) rfl
theorem q2102 : (Jvm.Cond.code ({ cls := "CodeLayout$Machine", name := "putBase", desc := "(IJZ)V" } : Jvm.MethodName) prog_5_method_18_code (5 : Nat) (Option.none : Option Jvm.ClassFile.FieldType)) ∈ lw_all := lw_g (lw_at lw_m8 197 rfl) rfl
theorem q2103 : (Jvm.Cond.methodLink "CodeLayout$Machine" (281 : Nat) ({ cls := "CodeLayout$Machine", name := "add", desc := "(I)V" } : Jvm.MethodName)) ∈ lw_all := lw_g (lw_at lw_m8 198 rfl) rfl
theorem q2105 : (Jvm.Cond.instanceMethod ({ cls := "CodeLayout$Machine", name := "add", desc := "(I)V" } : Jvm.MethodName)) ∈ lw_all := lw_g (lw_at lw_m8 200 rfl) rfl
theorem q2106 : (Jvm.Cond.code ({ cls := "CodeLayout$Machine", name := "add", desc := "(I)V" } : Jvm.MethodName) prog_5_method_29_code (7 : Nat) (Option.none : Option Jvm.ClassFile.FieldType)) ∈ lw_all := lw_g (lw_at lw_m8 201 rfl) rfl
theorem q2107 : (Jvm.Cond.methodLink "CodeLayout$Machine" (383 : Nat) ({ cls := "CodeLayout$Machine", name := "moved", desc := "(I)J" } : Jvm.MethodName)) ∈ lw_all := lw_g (lw_at lw_m8 202 rfl) rfl
theorem q2109 : (Jvm.Cond.instanceMethod ({ cls := "CodeLayout$Machine", name := "moved", desc := "(I)J" } : Jvm.MethodName)) ∈ lw_all := lw_g (lw_at lw_m8 204 rfl) rfl
theorem q2110 : (Jvm.Cond.code ({ cls := "CodeLayout$Machine", name := "moved", desc := "(I)J" } : Jvm.MethodName) prog_5_method_28_code (7 : Nat) (Option.some Jvm.ClassFile.FieldType.long)) ∈ lw_all := lw_g (lw_at lw_m8 205 rfl) rfl
theorem q2111 : (Jvm.Cond.methodLink "CodeLayout$Machine" (300 : Nat) ({ cls := "CodeLayout$Words", name := "m", desc := "(I)I" } : Jvm.MethodName)) ∈ lw_all := lw_g (lw_at lw_m8 206 rfl) rfl
theorem q2112 : (Jvm.Cond.static ({ cls := "CodeLayout$Words", name := "m", desc := "(I)I" } : Jvm.MethodName)) ∈ lw_all := lw_g (lw_at lw_m8 207 rfl) rfl
theorem q2113 : (Jvm.Cond.code ({ cls := "CodeLayout$Words", name := "m", desc := "(I)I" } : Jvm.MethodName) prog_13_method_6_code (1 : Nat) (Option.some Jvm.ClassFile.FieldType.int)) ∈ lw_all := lw_g (lw_at lw_m8 208 rfl) rfl
theorem q2114 : (Jvm.Cond.methodLink "CodeLayout$Machine" (297 : Nat) ({ cls := "CodeLayout$Machine", name := "number", desc := "(I)J" } : Jvm.MethodName)) ∈ lw_all := lw_g (lw_at lw_m8 209 rfl) rfl
theorem q2116 : (Jvm.Cond.instanceMethod ({ cls := "CodeLayout$Machine", name := "number", desc := "(I)J" } : Jvm.MethodName)) ∈ lw_all := lw_g (lw_at lw_m8 211 rfl) rfl
theorem q2117 : (Jvm.Cond.code ({ cls := "CodeLayout$Machine", name := "number", desc := "(I)J" } : Jvm.MethodName) prog_5_method_15_code (2 : Nat) (Option.some Jvm.ClassFile.FieldType.long)) ∈ lw_all := lw_g (lw_at lw_m8 212 rfl) rfl
theorem q2118 : (Jvm.Cond.methodLink "CodeLayout$Machine" (255 : Nat) ({ cls := "CodeLayout$Machine", name := "get", desc := "(I)J" } : Jvm.MethodName)) ∈ lw_all := lw_g (lw_at lw_m8 213 rfl) rfl
theorem q2120 : (Jvm.Cond.instanceMethod ({ cls := "CodeLayout$Machine", name := "get", desc := "(I)J" } : Jvm.MethodName)) ∈ lw_all := lw_g (lw_at lw_m8 215 rfl) rfl
theorem q2121 : (Jvm.Cond.code ({ cls := "CodeLayout$Machine", name := "get", desc := "(I)J" } : Jvm.MethodName) prog_5_method_14_code (2 : Nat) (Option.some Jvm.ClassFile.FieldType.long)) ∈ lw_all := lw_g (lw_at lw_m8 216 rfl) rfl
theorem q2122 : (Jvm.Cond.methodLink "CodeLayout$Machine" (380 : Nat) ({ cls := "CodeLayout$Words", name := "amount", desc := "(I)I" } : Jvm.MethodName)) ∈ lw_all := lw_g (lw_at lw_m8 217 rfl) rfl
theorem q2123 : (Jvm.Cond.methodLink "CodeLayout$Machine" (285 : Nat) ({ cls := "CodeLayout$Machine", name := "and", desc := "(I)V" } : Jvm.MethodName)) ∈ lw_all := lw_g (lw_at lw_m8 218 rfl) rfl
theorem q2125 : (Jvm.Cond.instanceMethod ({ cls := "CodeLayout$Machine", name := "and", desc := "(I)V" } : Jvm.MethodName)) ∈ lw_all := lw_g (lw_at lw_m8 220 rfl) rfl
theorem q2126 : (Jvm.Cond.code ({ cls := "CodeLayout$Machine", name := "and", desc := "(I)V" } : Jvm.MethodName) prog_5_method_30_code (12 : Nat) (Option.none : Option Jvm.ClassFile.FieldType)) ∈ lw_all := lw_g (lw_at lw_m8 221 rfl) rfl
theorem q2127 : (Jvm.Cond.methodLink "CodeLayout$Machine" (386 : Nat) ({ cls := "CodeLayout$Machine", name := "isMovable", desc := "(I)Z" } : Jvm.MethodName)) ∈ lw_all := lw_g (lw_at lw_m8 222 rfl) rfl
theorem q2129 : (Jvm.Cond.instanceMethod ({ cls := "CodeLayout$Machine", name := "isMovable", desc := "(I)Z" } : Jvm.MethodName)) ∈ lw_all := lw_g (lw_at lw_m8 224 rfl) rfl
theorem q2130 : (Jvm.Cond.code ({ cls := "CodeLayout$Machine", name := "isMovable", desc := "(I)Z" } : Jvm.MethodName) prog_5_method_20_code (2 : Nat) (Option.some Jvm.ClassFile.FieldType.boolean)) ∈ lw_all := lw_g (lw_at lw_m8 225 rfl) rfl
theorem q2131 : (Jvm.Cond.constantLong "CodeLayout$Machine" (389 : Nat) (-1 : Int64)) ∈ lw_all := lw_g (lw_at lw_m8 226 rfl) rfl
theorem q2132 : (Jvm.Cond.methodLink "CodeLayout$Machine" (288 : Nat) ({ cls := "CodeLayout$Machine", name := "move", desc := "(I)V" } : Jvm.MethodName)) ∈ lw_all := lw_g (lw_at lw_m8 227 rfl) rfl
theorem q2134 : (Jvm.Cond.instanceMethod ({ cls := "CodeLayout$Machine", name := "move", desc := "(I)V" } : Jvm.MethodName)) ∈ lw_all := lw_g (lw_at lw_m8 229 rfl) rfl
theorem q2135 : (Jvm.Cond.code ({ cls := "CodeLayout$Machine", name := "move", desc := "(I)V" } : Jvm.MethodName) prog_5_method_31_code (6 : Nat) (Option.none : Option Jvm.ClassFile.FieldType)) ∈ lw_all := lw_g (lw_at lw_m8 230 rfl) rfl
theorem q2136 : (Jvm.Cond.constant "CodeLayout$Machine" (391 : Nat) (65535 : Int32)) ∈ lw_all := lw_g (lw_at lw_m8 231 rfl) rfl
theorem q2137 : (Jvm.Cond.constantLong "CodeLayout$Machine" (392 : Nat) (65535 : Int64)) ∈ lw_all := lw_g (lw_at lw_m8 232 rfl) rfl
theorem q2138 : (Jvm.Cond.methodLink "CodeLayout$Machine" (291 : Nat) ({ cls := "CodeLayout$Machine", name := "page", desc := "(II)V" } : Jvm.MethodName)) ∈ lw_all := lw_g (lw_at lw_m8 233 rfl) rfl
theorem q2140 : (Jvm.Cond.instanceMethod ({ cls := "CodeLayout$Machine", name := "page", desc := "(II)V" } : Jvm.MethodName)) ∈ lw_all := lw_g (lw_at lw_m8 235 rfl) rfl
theorem q2141 : (Jvm.Cond.code ({ cls := "CodeLayout$Machine", name := "page", desc := "(II)V" } : Jvm.MethodName) prog_5_method_32_code (6 : Nat) (Option.none : Option Jvm.ClassFile.FieldType)) ∈ lw_all := lw_g (lw_at lw_m8 236 rfl) rfl
theorem q2142 : (Jvm.Cond.methodLink "CodeLayout$Machine" (394 : Nat) ({ cls := "CodeLayout$Words", name := "pageOf", desc := "(J)J" } : Jvm.MethodName)) ∈ lw_all := lw_g (lw_at lw_m8 237 rfl) rfl
theorem q2143 : (Jvm.Cond.methodLink "CodeLayout$Machine" (398 : Nat) ({ cls := "CodeLayout$Words", name := "pageBy", desc := "(I)J" } : Jvm.MethodName)) ∈ lw_all := lw_g (lw_at lw_m8 238 rfl) rfl
theorem q2144 : (Jvm.Cond.methodLink "CodeLayout$Machine" (303 : Nat) ({ cls := "CodeLayout$Words", name := "a", desc := "(I)I" } : Jvm.MethodName)) ∈ lw_all := lw_g (lw_at lw_m8 239 rfl) rfl
theorem q2145 : (Jvm.Cond.methodLink "CodeLayout$Machine" (316 : Nat) ({ cls := "CodeLayout$Machine", name := "two", desc := "(I)V" } : Jvm.MethodName)) ∈ lw_all := lw_g (lw_at lw_m9 0 rfl) rfl
theorem q2147 : (Jvm.Cond.instanceMethod ({ cls := "CodeLayout$Machine", name := "two", desc := "(I)V" } : Jvm.MethodName)) ∈ lw_all := lw_g (lw_at lw_m9 2 rfl) rfl
theorem q2148 : (Jvm.Cond.code ({ cls := "CodeLayout$Machine", name := "two", desc := "(I)V" } : Jvm.MethodName) prog_5_method_34_code (11 : Nat) (Option.none : Option Jvm.ClassFile.FieldType)) ∈ lw_all := lw_g (lw_at lw_m9 3 rfl) rfl
theorem q2149 : (Jvm.Cond.methodLink "CodeLayout$Machine" (401 : Nat) ({ cls := "CodeLayout$Machine", name := "quotient", desc := "(JJ)J" } : Jvm.MethodName)) ∈ lw_all := lw_g (lw_at lw_m9 4 rfl) rfl
theorem q2150 : (Jvm.Cond.static ({ cls := "CodeLayout$Machine", name := "quotient", desc := "(JJ)J" } : Jvm.MethodName)) ∈ lw_all := lw_g (lw_at lw_m9 5 rfl) rfl
theorem q2151 : (Jvm.Cond.code ({ cls := "CodeLayout$Machine", name := "quotient", desc := "(JJ)J" } : Jvm.MethodName) prog_5_method_33_code (6 : Nat) (Option.some Jvm.ClassFile.FieldType.long)) ∈ lw_all := lw_g (lw_at lw_m9 6 rfl) rfl
theorem q2152 : (Jvm.Cond.methodLink "CodeLayout$Machine" (319 : Nat) ({ cls := "CodeLayout$Machine", name := "choose", desc := "(I)V" } : Jvm.MethodName)) ∈ lw_all := lw_g (lw_at lw_m9 7 rfl) rfl
theorem q2154 : (Jvm.Cond.instanceMethod ({ cls := "CodeLayout$Machine", name := "choose", desc := "(I)V" } : Jvm.MethodName)) ∈ lw_all := lw_g (lw_at lw_m9 9 rfl) rfl
theorem q2155 : (Jvm.Cond.code ({ cls := "CodeLayout$Machine", name := "choose", desc := "(I)V" } : Jvm.MethodName) prog_5_method_35_code (5 : Nat) (Option.none : Option Jvm.ClassFile.FieldType)) ∈ lw_all := lw_g (lw_at lw_m9 10 rfl) rfl
theorem q2156 : (Jvm.Cond.methodLink "CodeLayout$Machine" (350 : Nat) ({ cls := "CodeLayout$Machine", name := "holds", desc := "(I)Z" } : Jvm.MethodName)) ∈ lw_all := lw_g (lw_at lw_m9 11 rfl) rfl
theorem q2158 : (Jvm.Cond.instanceMethod ({ cls := "CodeLayout$Machine", name := "holds", desc := "(I)Z" } : Jvm.MethodName)) ∈ lw_all := lw_g (lw_at lw_m9 13 rfl) rfl
theorem q2159 : (Jvm.Cond.code ({ cls := "CodeLayout$Machine", name := "holds", desc := "(I)Z" } : Jvm.MethodName) prog_5_method_21_code (3 : Nat) (Option.some Jvm.ClassFile.FieldType.boolean)) ∈ lw_all := lw_g (lw_at lw_m9 14 rfl) rfl
theorem q2160 : (Jvm.Cond.methodLink "CodeLayout$Machine" (328 : Nat) ({ cls := "CodeLayout$Words", name := "bytesOf", desc := "(I)I" } : Jvm.MethodName)) ∈ lw_all := lw_g (lw_at lw_m9 15 rfl) rfl
theorem q2161 : (Jvm.Cond.methodLink "CodeLayout$Machine" (331 : Nat) ({ cls := "CodeLayout$Machine", name := "access", desc := "(IJ)V" } : Jvm.MethodName)) ∈ lw_all := lw_g (lw_at lw_m9 16 rfl) rfl
theorem q2163 : (Jvm.Cond.instanceMethod ({ cls := "CodeLayout$Machine", name := "access", desc := "(IJ)V" } : Jvm.MethodName)) ∈ lw_all := lw_g (lw_at lw_m9 18 rfl) rfl
theorem q2164 : (Jvm.Cond.code ({ cls := "CodeLayout$Machine", name := "access", desc := "(IJ)V" } : Jvm.MethodName) prog_5_method_42_code (8 : Nat) (Option.none : Option Jvm.ClassFile.FieldType)) ∈ lw_all := lw_g (lw_at lw_m9 19 rfl) rfl
theorem q2165 : (Jvm.Cond.methodLink "CodeLayout$Machine" (434 : Nat) ({ cls := "CodeLayout$Machine", name := "isStorable", desc := "(IJI)Z" } : Jvm.MethodName)) ∈ lw_all := lw_g (lw_at lw_m9 20 rfl) rfl
theorem q2167 : (Jvm.Cond.instanceMethod ({ cls := "CodeLayout$Machine", name := "isStorable", desc := "(IJI)Z" } : Jvm.MethodName)) ∈ lw_all := lw_g (lw_at lw_m9 22 rfl) rfl
theorem q2168 : (Jvm.Cond.code ({ cls := "CodeLayout$Machine", name := "isStorable", desc := "(IJI)Z" } : Jvm.MethodName) prog_5_method_41_code (5 : Nat) (Option.some Jvm.ClassFile.FieldType.boolean)) ∈ lw_all := lw_g (lw_at lw_m9 23 rfl) rfl
theorem q2169 : (Jvm.Cond.constantLong "CodeLayout$Machine" (405 : Nat) (8 : Int64)) ∈ lw_all := lw_g (lw_at lw_m9 24 rfl) rfl
theorem q2170 : (Jvm.Cond.methodLink "CodeLayout$Machine" (437 : Nat) ({ cls := "CodeLayout$Machine", name := "looked", desc := "(JIZ)I" } : Jvm.MethodName)) ∈ lw_all := lw_g (lw_at lw_m9 25 rfl) rfl
theorem q2172 : (Jvm.Cond.instanceMethod ({ cls := "CodeLayout$Machine", name := "looked", desc := "(JIZ)I" } : Jvm.MethodName)) ∈ lw_all := lw_g (lw_at lw_m9 27 rfl) rfl
theorem q2173 : (Jvm.Cond.code ({ cls := "CodeLayout$Machine", name := "looked", desc := "(JIZ)I" } : Jvm.MethodName) prog_5_method_36_code (6 : Nat) (Option.some Jvm.ClassFile.FieldType.int)) ∈ lw_all := lw_g (lw_at lw_m9 28 rfl) rfl
theorem q2174 : (Jvm.Cond.methodLink "CodeLayout$Machine" (359 : Nat) ({ cls := "CodeLayout$Machine", name := "isInTexts", desc := "(JI)Z" } : Jvm.MethodName)) ∈ lw_all := lw_g (lw_at lw_m9 29 rfl) rfl
theorem q2176 : (Jvm.Cond.instanceMethod ({ cls := "CodeLayout$Machine", name := "isInTexts", desc := "(JI)Z" } : Jvm.MethodName)) ∈ lw_all := lw_g (lw_at lw_m9 31 rfl) rfl
theorem q2177 : (Jvm.Cond.code ({ cls := "CodeLayout$Machine", name := "isInTexts", desc := "(JI)Z" } : Jvm.MethodName) prog_5_method_12_code (5 : Nat) (Option.some Jvm.ClassFile.FieldType.boolean)) ∈ lw_all := lw_g (lw_at lw_m9 32 rfl) rfl
theorem q2178 : (Jvm.Cond.methodLink "CodeLayout$Machine" (242 : Nat) ({ cls := "java/lang/Math", name := "max", desc := "(II)I" } : Jvm.MethodName)) ∈ lw_all := lw_g (lw_at lw_m9 33 rfl) rfl
theorem q2179 : (Jvm.Cond.methodLink "CodeLayout$Machine" (407 : Nat) ({ cls := "CodeLayout$Memory", name := "hasCode", desc := "(JI)Z" } : Jvm.MethodName)) ∈ lw_all := lw_g (lw_at lw_m9 34 rfl) rfl
theorem q2180 : (Jvm.Cond.instanceMethod ({ cls := "CodeLayout$Memory", name := "hasCode", desc := "(JI)Z" } : Jvm.MethodName)) ∈ lw_all := lw_g (lw_at lw_m9 35 rfl) rfl
theorem q2181 : (Jvm.Cond.selects "CodeLayout$Memory" ({ cls := "CodeLayout$Memory", name := "hasCode", desc := "(JI)Z" } : Jvm.MethodName) ({ cls := "CodeLayout$Memory", name := "hasCode", desc := "(JI)Z" } : Jvm.MethodName)) ∈ lw_all := lw_g (lw_at lw_m9 36 rfl) rfl
theorem q2182 : (Jvm.Cond.code ({ cls := "CodeLayout$Memory", name := "hasCode", desc := "(JI)Z" } : Jvm.MethodName) prog_6_method_17_code (10 : Nat) (Option.some Jvm.ClassFile.FieldType.boolean)) ∈ lw_all := lw_g (lw_at lw_m9 37 rfl) rfl
theorem q2183 : (Jvm.Cond.constantLong "CodeLayout$Memory" (99 : Nat) (2147483648 : Int64)) ∈ lw_all := lw_g (lw_at lw_m9 38 rfl) rfl
theorem q2184 : (Jvm.Cond.methodLinkNest "CodeLayout$Memory" (101 : Nat) ({ cls := "CodeLayout", name := "isAbove", desc := "(JJ)Z" } : Jvm.MethodName) "CodeLayout") ∈ lw_tbl := lw_at lw_m9 39 rfl
theorem q2185 : (Jvm.Cond.methodLink "CodeLayout$Memory" (105 : Nat) ({ cls := "java/lang/Math", name := "max", desc := "(JJ)J" } : Jvm.MethodName)) ∈ lw_all := lw_g (lw_at lw_m9 40 rfl) rfl
theorem q2186 : (Jvm.Cond.methodLink "CodeLayout$Memory" (111 : Nat) ({ cls := "java/lang/Math", name := "min", desc := "(JJ)J" } : Jvm.MethodName)) ∈ lw_all := lw_g (lw_at lw_m9 41 rfl) rfl
theorem q2187 : (Jvm.Cond.static ({ cls := "java/lang/Math", name := "min", desc := "(JJ)J" } : Jvm.MethodName)) ∈ lw_all := lw_g (lw_at lw_m9 42 rfl) rfl
theorem q2188 : (Jvm.Cond.code ({ cls := "java/lang/Math", name := "min", desc := "(JJ)J" } : Jvm.MethodName) prog_26_method_70_code (4 : Nat) (Option.some Jvm.ClassFile.FieldType.long)) ∈ lw_all := lw_g (lw_at lw_m9 43 rfl) rfl
theorem q2189 : (Jvm.Cond.methodLink "CodeLayout$Machine" (410 : Nat) ({ cls := "CodeLayout$Memory", name := "mayStore", desc := "(I)Z" } : Jvm.MethodName)) ∈ lw_all := lw_g (lw_at lw_m9 44 rfl) rfl
theorem q2190 : (Jvm.Cond.instanceMethod ({ cls := "CodeLayout$Memory", name := "mayStore", desc := "(I)Z" } : Jvm.MethodName)) ∈ lw_all := lw_g (lw_at lw_m9 45 rfl) rfl
theorem q2191 : (Jvm.Cond.selects "CodeLayout$Memory" ({ cls := "CodeLayout$Memory", name := "mayStore", desc := "(I)Z" } : Jvm.MethodName) ({ cls := "CodeLayout$Memory", name := "mayStore", desc := "(I)Z" } : Jvm.MethodName)) ∈ lw_all := lw_g (lw_at lw_m9 46 rfl) rfl
theorem q2192 : (Jvm.Cond.code ({ cls := "CodeLayout$Memory", name := "mayStore", desc := "(I)Z" } : Jvm.MethodName) prog_6_method_12_code (2 : Nat) (Option.some Jvm.ClassFile.FieldType.boolean)) ∈ lw_all := lw_g (lw_at lw_m9 47 rfl) rfl
theorem q2193 : (Jvm.Cond.methodLink "CodeLayout$Machine" (441 : Nat) ({ cls := "CodeLayout$Machine", name := "storeFrom", desc := "(IIJI)V" } : Jvm.MethodName)) ∈ lw_all := lw_g (lw_at lw_m9 48 rfl) rfl
theorem q2195 : (Jvm.Cond.instanceMethod ({ cls := "CodeLayout$Machine", name := "storeFrom", desc := "(IIJI)V" } : Jvm.MethodName)) ∈ lw_all := lw_g (lw_at lw_m9 50 rfl) rfl
theorem q2196 : (Jvm.Cond.code ({ cls := "CodeLayout$Machine", name := "storeFrom", desc := "(IIJI)V" } : Jvm.MethodName) prog_5_method_40_code (6 : Nat) (Option.none : Option Jvm.ClassFile.FieldType)) ∈ lw_all := lw_g (lw_at lw_m9 51 rfl) rfl
theorem q2197 : (Jvm.Cond.methodLink "CodeLayout$Machine" (430 : Nat) ({ cls := "CodeLayout$Memory", name := "store", desc := "(IJIJ)V" } : Jvm.MethodName)) ∈ lw_all := lw_g (lw_at lw_m9 52 rfl) rfl
theorem q2198 : (Jvm.Cond.instanceMethod ({ cls := "CodeLayout$Memory", name := "store", desc := "(IJIJ)V" } : Jvm.MethodName)) ∈ lw_all := lw_g (lw_at lw_m9 53 rfl) rfl
theorem q2199 : (Jvm.Cond.selects "CodeLayout$Memory" ({ cls := "CodeLayout$Memory", name := "store", desc := "(IJIJ)V" } : Jvm.MethodName) ({ cls := "CodeLayout$Memory", name := "store", desc := "(IJIJ)V" } : Jvm.MethodName)) ∈ lw_all := lw_g (lw_at lw_m9 54 rfl) rfl
theorem q2200 : (Jvm.Cond.code ({ cls := "CodeLayout$Memory", name := "store", desc := "(IJIJ)V" } : Jvm.MethodName) prog_6_method_13_code (9 : Nat) (Option.none : Option Jvm.ClassFile.FieldType)) ∈ lw_all := lw_g (lw_at lw_m9 55 rfl) rfl
theorem q2201 : (Jvm.Cond.methodLink "CodeLayout$Memory" (89 : Nat) ({ cls := "CodeLayout$Memory", name := "placeOf", desc := "(IJ)I" } : Jvm.MethodName)) ∈ lw_all := lw_g (lw_at lw_m9 56 rfl) rfl
theorem q2203 : (Jvm.Cond.instanceMethod ({ cls := "CodeLayout$Memory", name := "placeOf", desc := "(IJ)I" } : Jvm.MethodName)) ∈ lw_all := lw_g (lw_at lw_m9 58 rfl) rfl
theorem q2204 : (Jvm.Cond.code ({ cls := "CodeLayout$Memory", name := "placeOf", desc := "(IJ)I" } : Jvm.MethodName) prog_6_method_8_code (4 : Nat) (Option.some Jvm.ClassFile.FieldType.int)) ∈ lw_all := lw_g (lw_at lw_m9 59 rfl) rfl
theorem q2205 : (Jvm.Cond.methodLink "CodeLayout$Machine" (445 : Nat) ({ cls := "CodeLayout$Machine", name := "loadTo", desc := "(IIJIZ)V" } : Jvm.MethodName)) ∈ lw_all := lw_g (lw_at lw_m9 60 rfl) rfl
theorem q2207 : (Jvm.Cond.instanceMethod ({ cls := "CodeLayout$Machine", name := "loadTo", desc := "(IIJIZ)V" } : Jvm.MethodName)) ∈ lw_all := lw_g (lw_at lw_m9 62 rfl) rfl
theorem q2208 : (Jvm.Cond.code ({ cls := "CodeLayout$Machine", name := "loadTo", desc := "(IIJIZ)V" } : Jvm.MethodName) prog_5_method_39_code (9 : Nat) (Option.none : Option Jvm.ClassFile.FieldType)) ∈ lw_all := lw_g (lw_at lw_m9 63 rfl) rfl
theorem q2209 : (Jvm.Cond.methodLink "CodeLayout$Machine" (421 : Nat) ({ cls := "CodeLayout$Machine", name := "loaded", desc := "(IJI)J" } : Jvm.MethodName)) ∈ lw_all := lw_g (lw_at lw_m9 64 rfl) rfl
theorem q2211 : (Jvm.Cond.instanceMethod ({ cls := "CodeLayout$Machine", name := "loaded", desc := "(IJI)J" } : Jvm.MethodName)) ∈ lw_all := lw_g (lw_at lw_m9 66 rfl) rfl
theorem q2212 : (Jvm.Cond.code ({ cls := "CodeLayout$Machine", name := "loaded", desc := "(IJI)J" } : Jvm.MethodName) prog_5_method_37_code (10 : Nat) (Option.some Jvm.ClassFile.FieldType.long)) ∈ lw_all := lw_g (lw_at lw_m9 67 rfl) rfl
theorem q2213 : (Jvm.Cond.methodLink "CodeLayout$Machine" (413 : Nat) ({ cls := "CodeLayout$Memory", name := "load", desc := "(IJI)J" } : Jvm.MethodName)) ∈ lw_all := lw_g (lw_at lw_m9 68 rfl) rfl
theorem q2214 : (Jvm.Cond.instanceMethod ({ cls := "CodeLayout$Memory", name := "load", desc := "(IJI)J" } : Jvm.MethodName)) ∈ lw_all := lw_g (lw_at lw_m9 69 rfl) rfl
theorem q2215 : (Jvm.Cond.selects "CodeLayout$Memory" ({ cls := "CodeLayout$Memory", name := "load", desc := "(IJI)J" } : Jvm.MethodName) ({ cls := "CodeLayout$Memory", name := "load", desc := "(IJI)J" } : Jvm.MethodName)) ∈ lw_all := lw_g (lw_at lw_m9 70 rfl) rfl
theorem q2216 : (Jvm.Cond.code ({ cls := "CodeLayout$Memory", name := "load", desc := "(IJI)J" } : Jvm.MethodName) prog_6_method_11_code (9 : Nat) (Option.some Jvm.ClassFile.FieldType.long)) ∈ lw_all := lw_g (lw_at lw_m9 71 rfl) rfl
theorem q2217 : (Jvm.Cond.methodLink "CodeLayout$Machine" (424 : Nat) ({ cls := "CodeLayout$Machine", name := "isCode", desc := "(IJI)Z" } : Jvm.MethodName)) ∈ lw_all := lw_g (lw_at lw_m9 72 rfl) rfl
theorem q2219 : (Jvm.Cond.instanceMethod ({ cls := "CodeLayout$Machine", name := "isCode", desc := "(IJI)Z" } : Jvm.MethodName)) ∈ lw_all := lw_g (lw_at lw_m9 74 rfl) rfl
theorem q2220 : (Jvm.Cond.code ({ cls := "CodeLayout$Machine", name := "isCode", desc := "(IJI)Z" } : Jvm.MethodName) prog_5_method_38_code (5 : Nat) (Option.some Jvm.ClassFile.FieldType.boolean)) ∈ lw_all := lw_g (lw_at lw_m9 75 rfl) rfl
theorem q2221 : (Jvm.Cond.methodLink "CodeLayout$Machine" (417 : Nat) ({ cls := "CodeLayout$Memory", name := "kindAt", desc := "(IJ)I" } : Jvm.MethodName)) ∈ lw_all := lw_g (lw_at lw_m9 76 rfl) rfl
theorem q2222 : (Jvm.Cond.instanceMethod ({ cls := "CodeLayout$Memory", name := "kindAt", desc := "(IJ)I" } : Jvm.MethodName)) ∈ lw_all := lw_g (lw_at lw_m9 77 rfl) rfl
theorem q2223 : (Jvm.Cond.selects "CodeLayout$Memory" ({ cls := "CodeLayout$Memory", name := "kindAt", desc := "(IJ)I" } : Jvm.MethodName) ({ cls := "CodeLayout$Memory", name := "kindAt", desc := "(IJ)I" } : Jvm.MethodName)) ∈ lw_all := lw_g (lw_at lw_m9 78 rfl) rfl
theorem q2224 : (Jvm.Cond.code ({ cls := "CodeLayout$Memory", name := "kindAt", desc := "(IJ)I" } : Jvm.MethodName) prog_6_method_14_code (4 : Nat) (Option.some Jvm.ClassFile.FieldType.int)) ∈ lw_all := lw_g (lw_at lw_m9 79 rfl) rfl
theorem q2225 : (Jvm.Cond.methodLink "CodeLayout$Machine" (428 : Nat) ({ cls := "CodeLayout$Memory", name := "blockAt", desc := "(IJ)I" } : Jvm.MethodName)) ∈ lw_all := lw_g (lw_at lw_m9 80 rfl) rfl
theorem q2226 : (Jvm.Cond.instanceMethod ({ cls := "CodeLayout$Memory", name := "blockAt", desc := "(IJ)I" } : Jvm.MethodName)) ∈ lw_all := lw_g (lw_at lw_m9 81 rfl) rfl
theorem q2227 : (Jvm.Cond.selects "CodeLayout$Memory" ({ cls := "CodeLayout$Memory", name := "blockAt", desc := "(IJ)I" } : Jvm.MethodName) ({ cls := "CodeLayout$Memory", name := "blockAt", desc := "(IJ)I" } : Jvm.MethodName)) ∈ lw_all := lw_g (lw_at lw_m9 82 rfl) rfl
theorem q2228 : (Jvm.Cond.code ({ cls := "CodeLayout$Memory", name := "blockAt", desc := "(IJ)I" } : Jvm.MethodName) prog_6_method_15_code (4 : Nat) (Option.some Jvm.ClassFile.FieldType.int)) ∈ lw_all := lw_g (lw_at lw_m9 83 rfl) rfl
theorem q2229 : (Jvm.Cond.methodLink "CodeLayout$Machine" (335 : Nat) ({ cls := "CodeLayout$Machine", name := "pair", desc := "(I)V" } : Jvm.MethodName)) ∈ lw_all := lw_g (lw_at lw_m9 84 rfl) rfl
theorem q2231 : (Jvm.Cond.instanceMethod ({ cls := "CodeLayout$Machine", name := "pair", desc := "(I)V" } : Jvm.MethodName)) ∈ lw_all := lw_g (lw_at lw_m9 86 rfl) rfl
theorem q2232 : (Jvm.Cond.code ({ cls := "CodeLayout$Machine", name := "pair", desc := "(I)V" } : Jvm.MethodName) prog_5_method_43_code (15 : Nat) (Option.none : Option Jvm.ClassFile.FieldType)) ∈ lw_all := lw_g (lw_at lw_m9 87 rfl) rfl
theorem q2233 : (Jvm.Cond.methodLink "CodeLayout$Machine" (338 : Nat) ({ cls := "CodeLayout$Machine", name := "host", desc := "()V" } : Jvm.MethodName)) ∈ lw_all := lw_g (lw_at lw_m9 88 rfl) rfl
theorem q2235 : (Jvm.Cond.instanceMethod ({ cls := "CodeLayout$Machine", name := "host", desc := "()V" } : Jvm.MethodName)) ∈ lw_all := lw_g (lw_at lw_m9 90 rfl) rfl
theorem q2236 : (Jvm.Cond.code ({ cls := "CodeLayout$Machine", name := "host", desc := "()V" } : Jvm.MethodName) prog_5_method_44_code (13 : Nat) (Option.none : Option Jvm.ClassFile.FieldType)) ∈ lw_all := lw_g (lw_at lw_m9 91 rfl) rfl
theorem q2237 : (Jvm.Cond.constantLong "CodeLayout$Machine" (449 : Nat) (64 : Int64)) ∈ lw_all := lw_g (lw_at lw_m9 92 rfl) rfl
theorem q2238 : (Jvm.Cond.constantLong "CodeLayout$Machine" (451 : Nat) (4096 : Int64)) ∈ lw_all := lw_g (lw_at lw_m9 93 rfl) rfl
theorem q2239 : (Jvm.Cond.constantLong "CodeLayout$Machine" (453 : Nat) (93 : Int64)) ∈ lw_all := lw_g (lw_at lw_m9 94 rfl) rfl
theorem q2240 : (Jvm.Cond.constantLong "CodeLayout$Machine" (455 : Nat) (-38 : Int64)) ∈ lw_all := lw_g (lw_at lw_m9 95 rfl) rfl
theorem q2241 : (Jvm.Cond.methodLink "CodeLayout$Machine" (341 : Nat) ({ cls := "CodeLayout$Machine", name := "gone", desc := "(III)J" } : Jvm.MethodName)) ∈ lw_all := lw_g (lw_at lw_m9 96 rfl) rfl
theorem q2243 : (Jvm.Cond.instanceMethod ({ cls := "CodeLayout$Machine", name := "gone", desc := "(III)J" } : Jvm.MethodName)) ∈ lw_all := lw_g (lw_at lw_m9 98 rfl) rfl
theorem q2244 : (Jvm.Cond.code ({ cls := "CodeLayout$Machine", name := "gone", desc := "(III)J" } : Jvm.MethodName) prog_5_method_23_code (9 : Nat) (Option.some Jvm.ClassFile.FieldType.long)) ∈ lw_all := lw_g (lw_at lw_m9 99 rfl) rfl
theorem q2245 : (Jvm.Cond.methodLink "CodeLayout$Machine" (345 : Nat) ({ cls := "CodeLayout$Words", name := "by", desc := "(II)I" } : Jvm.MethodName)) ∈ lw_all := lw_g (lw_at lw_m9 100 rfl) rfl
theorem q2246 : (Jvm.Cond.methodLink "CodeLayout$Machine" (347 : Nat) ({ cls := "CodeLayout$Machine", name := "link", desc := "(I)V" } : Jvm.MethodName)) ∈ lw_all := lw_g (lw_at lw_m9 101 rfl) rfl
theorem q2248 : (Jvm.Cond.instanceMethod ({ cls := "CodeLayout$Machine", name := "link", desc := "(I)V" } : Jvm.MethodName)) ∈ lw_all := lw_g (lw_at lw_m9 103 rfl) rfl
theorem q2249 : (Jvm.Cond.code ({ cls := "CodeLayout$Machine", name := "link", desc := "(I)V" } : Jvm.MethodName) prog_5_method_24_code (2 : Nat) (Option.none : Option Jvm.ClassFile.FieldType)) ∈ lw_all := lw_g (lw_at lw_m9 104 rfl) rfl
theorem q2250 : (Jvm.Cond.methodLink "CodeLayout$Machine" (353 : Nat) ({ cls := "CodeLayout$Machine", name := "to", desc := "(III)J" } : Jvm.MethodName)) ∈ lw_all := lw_g (lw_at lw_m9 105 rfl) rfl
theorem q2252 : (Jvm.Cond.instanceMethod ({ cls := "CodeLayout$Machine", name := "to", desc := "(III)J" } : Jvm.MethodName)) ∈ lw_all := lw_g (lw_at lw_m9 107 rfl) rfl
theorem q2253 : (Jvm.Cond.code ({ cls := "CodeLayout$Machine", name := "to", desc := "(III)J" } : Jvm.MethodName) prog_5_method_25_code (7 : Nat) (Option.some Jvm.ClassFile.FieldType.long)) ∈ lw_all := lw_g (lw_at lw_m9 108 rfl) rfl
theorem q2254 : (Jvm.Cond.methodLink "CodeLayout$Machine" (363 : Nat) ({ cls := "CodeLayout$Machine", name := "isKnown", desc := "(J)Z" } : Jvm.MethodName)) ∈ lw_all := lw_g (lw_at lw_m9 109 rfl) rfl
theorem q2256 : (Jvm.Cond.instanceMethod ({ cls := "CodeLayout$Machine", name := "isKnown", desc := "(J)Z" } : Jvm.MethodName)) ∈ lw_all := lw_g (lw_at lw_m9 111 rfl) rfl
theorem q2257 : (Jvm.Cond.code ({ cls := "CodeLayout$Machine", name := "isKnown", desc := "(J)Z" } : Jvm.MethodName) prog_5_method_10_code (4 : Nat) (Option.some Jvm.ClassFile.FieldType.boolean)) ∈ lw_all := lw_g (lw_at lw_m9 112 rfl) rfl
theorem q2258 : (Jvm.Cond.methodLink "CodeLayout$Machine" (239 : Nat) ({ cls := "CodeLayout$Writing", name := "behindEnd", desc := "(I)J" } : Jvm.MethodName)) ∈ lw_all := lw_g (lw_at lw_m9 113 rfl) rfl
theorem q2259 : (Jvm.Cond.instanceMethod ({ cls := "CodeLayout$Writing", name := "behindEnd", desc := "(I)J" } : Jvm.MethodName)) ∈ lw_all := lw_g (lw_at lw_m9 114 rfl) rfl
theorem q2260 : (Jvm.Cond.selects "CodeLayout$Writing" ({ cls := "CodeLayout$Writing", name := "behindEnd", desc := "(I)J" } : Jvm.MethodName) ({ cls := "CodeLayout$Writing", name := "behindEnd", desc := "(I)J" } : Jvm.MethodName)) ∈ lw_all := lw_g (lw_at lw_m9 115 rfl) rfl
theorem q2261 : (Jvm.Cond.code ({ cls := "CodeLayout$Writing", name := "behindEnd", desc := "(I)J" } : Jvm.MethodName) prog_14_method_13_code (2 : Nat) (Option.some Jvm.ClassFile.FieldType.long)) ∈ lw_all := lw_g (lw_at lw_m9 116 rfl) rfl
theorem q2262 : (Jvm.Cond.methodLink "CodeLayoutLaw" (104 : Nat) ({ cls := "CodeLayout", name := "told", desc := "(II)I" } : Jvm.MethodName)) ∈ lw_all := lw_g (lw_at lw_m9 117 rfl) rfl
theorem q2263 : (Jvm.Cond.instanceMethod ({ cls := "CodeLayout", name := "told", desc := "(II)I" } : Jvm.MethodName)) ∈ lw_all := lw_g (lw_at lw_m9 118 rfl) rfl
theorem q2264 : (Jvm.Cond.selects "CodeLayout" ({ cls := "CodeLayout", name := "told", desc := "(II)I" } : Jvm.MethodName) ({ cls := "CodeLayout", name := "told", desc := "(II)I" } : Jvm.MethodName)) ∈ lw_all := lw_g (lw_at lw_m9 119 rfl) rfl
theorem q2265 : (Jvm.Cond.code ({ cls := "CodeLayout", name := "told", desc := "(II)I" } : Jvm.MethodName) prog_1_method_33_code (4 : Nat) (Option.some Jvm.ClassFile.FieldType.int)) ∈ lw_all := lw_g (lw_at lw_m9 120 rfl) rfl
theorem q2266 : (Jvm.Cond.methodLink "CodeLayout" (355 : Nat) ({ cls := "CodeLayout", name := "isRun", desc := "(I)Z" } : Jvm.MethodName)) ∈ lw_all := lw_g (lw_at lw_m9 121 rfl) rfl
theorem q2268 : (Jvm.Cond.instanceMethod ({ cls := "CodeLayout", name := "isRun", desc := "(I)Z" } : Jvm.MethodName)) ∈ lw_all := lw_g (lw_at lw_m9 123 rfl) rfl
theorem q2269 : (Jvm.Cond.code ({ cls := "CodeLayout", name := "isRun", desc := "(I)Z" } : Jvm.MethodName) prog_1_method_31_code (2 : Nat) (Option.some Jvm.ClassFile.FieldType.boolean)) ∈ lw_all := lw_g (lw_at lw_m9 124 rfl) rfl
theorem q2270 : (Jvm.Cond.methodLink "CodeLayoutLaw" (108 : Nat) ({ cls := "CodeLayout", name := "register", desc := "(II)J" } : Jvm.MethodName)) ∈ lw_all := lw_g (lw_at lw_m9 125 rfl) rfl
theorem q2271 : (Jvm.Cond.instanceMethod ({ cls := "CodeLayout", name := "register", desc := "(II)J" } : Jvm.MethodName)) ∈ lw_all := lw_g (lw_at lw_m9 126 rfl) rfl
theorem q2272 : (Jvm.Cond.selects "CodeLayout" ({ cls := "CodeLayout", name := "register", desc := "(II)J" } : Jvm.MethodName) ({ cls := "CodeLayout", name := "register", desc := "(II)J" } : Jvm.MethodName)) ∈ lw_all := lw_g (lw_at lw_m9 127 rfl) rfl
theorem q2273 : (Jvm.Cond.code ({ cls := "CodeLayout", name := "register", desc := "(II)J" } : Jvm.MethodName) prog_1_method_35_code (3 : Nat) (Option.some Jvm.ClassFile.FieldType.long)) ∈ lw_all := lw_g (lw_at lw_m9 128 rfl) rfl
theorem q2274 : (Jvm.Cond.methodLink "CodeLayout" (384 : Nat) ({ cls := "CodeLayout", name := "isRegister", desc := "(II)Z" } : Jvm.MethodName)) ∈ lw_all := lw_g (lw_at lw_m9 129 rfl) rfl
theorem q2276 : (Jvm.Cond.instanceMethod ({ cls := "CodeLayout", name := "isRegister", desc := "(II)Z" } : Jvm.MethodName)) ∈ lw_all := lw_g (lw_at lw_m9 131 rfl) rfl
theorem q2277 : (Jvm.Cond.code ({ cls := "CodeLayout", name := "isRegister", desc := "(II)Z" } : Jvm.MethodName) prog_1_method_34_code (3 : Nat) (Option.some Jvm.ClassFile.FieldType.boolean)) ∈ lw_all := lw_g (lw_at lw_m9 132 rfl) rfl
theorem q2278 : (Jvm.Cond.methodLink "CodeLayoutLaw" (112 : Nat) ({ cls := "CodeLayout", name := "kind", desc := "(I)I" } : Jvm.MethodName)) ∈ lw_all := lw_g (lw_at lw_m9 133 rfl) rfl
theorem q2279 : (Jvm.Cond.instanceMethod ({ cls := "CodeLayout", name := "kind", desc := "(I)I" } : Jvm.MethodName)) ∈ lw_all := lw_g (lw_at lw_m9 134 rfl) rfl
theorem q2280 : (Jvm.Cond.selects "CodeLayout" ({ cls := "CodeLayout", name := "kind", desc := "(I)I" } : Jvm.MethodName) ({ cls := "CodeLayout", name := "kind", desc := "(I)I" } : Jvm.MethodName)) ∈ lw_all := lw_g (lw_at lw_m9 135 rfl) rfl
theorem q2281 : (Jvm.Cond.code ({ cls := "CodeLayout", name := "kind", desc := "(I)I" } : Jvm.MethodName) prog_1_method_36_code (2 : Nat) (Option.some Jvm.ClassFile.FieldType.int)) ∈ lw_all := lw_g (lw_at lw_m9 136 rfl) rfl
theorem q2282 : (Jvm.Cond.methodLink "CodeLayoutLaw" (116 : Nat) ({ cls := "CodeLayout", name := "newer", desc := "(I)J" } : Jvm.MethodName)) ∈ lw_all := lw_g (lw_at lw_m9 137 rfl) rfl
theorem q2283 : (Jvm.Cond.instanceMethod ({ cls := "CodeLayout", name := "newer", desc := "(I)J" } : Jvm.MethodName)) ∈ lw_all := lw_g (lw_at lw_m9 138 rfl) rfl
theorem q2284 : (Jvm.Cond.selects "CodeLayout" ({ cls := "CodeLayout", name := "newer", desc := "(I)J" } : Jvm.MethodName) ({ cls := "CodeLayout", name := "newer", desc := "(I)J" } : Jvm.MethodName)) ∈ lw_all := lw_g (lw_at lw_m9 139 rfl) rfl
theorem q2285 : (Jvm.Cond.code ({ cls := "CodeLayout", name := "newer", desc := "(I)J" } : Jvm.MethodName) prog_1_method_38_code (3 : Nat) (Option.some Jvm.ClassFile.FieldType.long)) ∈ lw_all := lw_g (lw_at lw_m9 140 rfl) rfl
theorem q2286 : (Jvm.Cond.methodLink "CodeLayout" (400 : Nat) ({ cls := "CodeLayout", name := "newOf", desc := "(II)J" } : Jvm.MethodName)) ∈ lw_all := lw_g (lw_at lw_m9 141 rfl) rfl
theorem q2288 : (Jvm.Cond.instanceMethod ({ cls := "CodeLayout", name := "newOf", desc := "(II)J" } : Jvm.MethodName)) ∈ lw_all := lw_g (lw_at lw_m9 143 rfl) rfl
theorem q2289 : (Jvm.Cond.code ({ cls := "CodeLayout", name := "newOf", desc := "(II)J" } : Jvm.MethodName) prog_1_method_37_code (3 : Nat) (Option.some Jvm.ClassFile.FieldType.long)) ∈ lw_all := lw_g (lw_at lw_m9 144 rfl) rfl
theorem q2290 : (Jvm.Cond.methodLink "CodeLayout" (393 : Nat) ({ cls := "CodeLayout$Writing", name := "addressOf", desc := "(I)J" } : Jvm.MethodName)) ∈ lw_all := lw_g (lw_at lw_m9 145 rfl) rfl
theorem q2291 : (Jvm.Cond.methodLink "CodeLayout" (394 : Nat) ({ cls := "CodeLayout$Writing", name := "behindEnd", desc := "(I)J" } : Jvm.MethodName)) ∈ lw_all := lw_g (lw_at lw_m9 146 rfl) rfl
theorem q2292 : (Jvm.Cond.methodLink "CodeLayoutLaw" (121 : Nat) ({ cls := "CodeLayout", name := "visit", desc := "(II)I" } : Jvm.MethodName)) ∈ lw_all := lw_g (lw_at lw_m9 147 rfl) rfl
theorem q2293 : (Jvm.Cond.instanceMethod ({ cls := "CodeLayout", name := "visit", desc := "(II)I" } : Jvm.MethodName)) ∈ lw_all := lw_g (lw_at lw_m9 148 rfl) rfl
theorem q2294 : (Jvm.Cond.selects "CodeLayout" ({ cls := "CodeLayout", name := "visit", desc := "(II)I" } : Jvm.MethodName) ({ cls := "CodeLayout", name := "visit", desc := "(II)I" } : Jvm.MethodName)) ∈ lw_all := lw_g (lw_at lw_m9 149 rfl) rfl
theorem q2295 : (Jvm.Cond.code ({ cls := "CodeLayout", name := "visit", desc := "(II)I" } : Jvm.MethodName) prog_1_method_39_code (3 : Nat) (Option.some Jvm.ClassFile.FieldType.int)) ∈ lw_all := lw_g (lw_at lw_m9 150 rfl) rfl
theorem q2296 : (Jvm.Cond.methodLink "CodeLayoutLaw" (125 : Nat) ({ cls := "CodeLayout", name := "memory", desc := "(IJ)I" } : Jvm.MethodName)) ∈ lw_all := lw_g (lw_at lw_m9 151 rfl) rfl
theorem q2297 : (Jvm.Cond.instanceMethod ({ cls := "CodeLayout", name := "memory", desc := "(IJ)I" } : Jvm.MethodName)) ∈ lw_all := lw_g (lw_at lw_m9 152 rfl) rfl
theorem q2298 : (Jvm.Cond.selects "CodeLayout" ({ cls := "CodeLayout", name := "memory", desc := "(IJ)I" } : Jvm.MethodName) ({ cls := "CodeLayout", name := "memory", desc := "(IJ)I" } : Jvm.MethodName)) ∈ lw_all := lw_g (lw_at lw_m9 153 rfl) rfl
theorem q2299 : (Jvm.Cond.code ({ cls := "CodeLayout", name := "memory", desc := "(IJ)I" } : Jvm.MethodName) prog_1_method_40_code (4 : Nat) (Option.some Jvm.ClassFile.FieldType.int)) ∈ lw_all := lw_g (lw_at lw_m9 154 rfl) rfl
theorem q2300 : (Jvm.Cond.methodLink "CodeLayout" (410 : Nat) ({ cls := "CodeLayout$Memory", name := "at", desc := "(J)I" } : Jvm.MethodName)) ∈ lw_all := lw_g (lw_at lw_m9 155 rfl) rfl
theorem q2301 : (Jvm.Cond.instanceMethod ({ cls := "CodeLayout$Memory", name := "at", desc := "(J)I" } : Jvm.MethodName)) ∈ lw_all := lw_g (lw_at lw_m9 156 rfl) rfl
theorem q2302 : (Jvm.Cond.selects "CodeLayout$Memory" ({ cls := "CodeLayout$Memory", name := "at", desc := "(J)I" } : Jvm.MethodName) ({ cls := "CodeLayout$Memory", name := "at", desc := "(J)I" } : Jvm.MethodName)) ∈ lw_all := lw_g (lw_at lw_m9 157 rfl) rfl
theorem q2303 : (Jvm.Cond.code ({ cls := "CodeLayout$Memory", name := "at", desc := "(J)I" } : Jvm.MethodName) prog_6_method_10_code (4 : Nat) (Option.some Jvm.ClassFile.FieldType.int)) ∈ lw_all := lw_g (lw_at lw_m9 158 rfl) rfl
theorem q2304 : (Jvm.Cond.methodLink "CodeLayout$Memory" (85 : Nat) ({ cls := "CodeLayout$Memory", name := "regionOf", desc := "(JI)I" } : Jvm.MethodName)) ∈ lw_all := lw_g (lw_at lw_m9 159 rfl) rfl
theorem q2305 : (Jvm.Cond.methodLink "CodeLayoutLaw" (130 : Nat) ({ cls := "CodeLayout", name := "keeps", desc := "(J)I" } : Jvm.MethodName)) ∈ lw_all := lw_g (lw_at lw_m9 160 rfl) rfl
theorem q2306 : (Jvm.Cond.instanceMethod ({ cls := "CodeLayout", name := "keeps", desc := "(J)I" } : Jvm.MethodName)) ∈ lw_all := lw_g (lw_at lw_m9 161 rfl) rfl
theorem q2307 : (Jvm.Cond.selects "CodeLayout" ({ cls := "CodeLayout", name := "keeps", desc := "(J)I" } : Jvm.MethodName) ({ cls := "CodeLayout", name := "keeps", desc := "(J)I" } : Jvm.MethodName)) ∈ lw_all := lw_g (lw_at lw_m9 162 rfl) rfl
theorem q2308 : (Jvm.Cond.code ({ cls := "CodeLayout", name := "keeps", desc := "(J)I" } : Jvm.MethodName) prog_1_method_42_code (4 : Nat) (Option.some Jvm.ClassFile.FieldType.int)) ∈ lw_all := lw_g (lw_at lw_m9 163 rfl) rfl
theorem q2309 : (Jvm.Cond.methodLink "CodeLayout" (420 : Nat) ({ cls := "CodeLayout", name := "longAt", desc := "(J)I" } : Jvm.MethodName)) ∈ lw_all := lw_g (lw_at lw_m9 164 rfl) rfl
theorem q2311 : (Jvm.Cond.instanceMethod ({ cls := "CodeLayout", name := "longAt", desc := "(J)I" } : Jvm.MethodName)) ∈ lw_all := lw_g (lw_at lw_m9 166 rfl) rfl
theorem q2312 : (Jvm.Cond.code ({ cls := "CodeLayout", name := "longAt", desc := "(J)I" } : Jvm.MethodName) prog_1_method_41_code (3 : Nat) (Option.some Jvm.ClassFile.FieldType.int)) ∈ lw_all := lw_g (lw_at lw_m9 167 rfl) rfl
theorem q2313 : (Jvm.Cond.constantLong "CodeLayout" (414 : Nat) (8 : Int64)) ∈ lw_all := lw_g (lw_at lw_m9 168 rfl) rfl
theorem q2314 : (Jvm.Cond.methodLink "CodeLayout" (416 : Nat) ({ cls := "CodeLayout$Memory", name := "regionOf", desc := "(JI)I" } : Jvm.MethodName)) ∈ lw_all := lw_g (lw_at lw_m9 169 rfl) rfl
theorem q2315 : (Jvm.Cond.methodLink "CodeLayout" (423 : Nat) ({ cls := "CodeLayout$Memory", name := "kindAt", desc := "(IJ)I" } : Jvm.MethodName)) ∈ lw_all := lw_g (lw_at lw_m9 170 rfl) rfl
theorem q2316 : (Jvm.Cond.methodLink "CodeLayoutLaw" (135 : Nat) ({ cls := "CodeLayout", name := "newest", desc := "(J)J" } : Jvm.MethodName)) ∈ lw_all := lw_g (lw_at lw_m9 171 rfl) rfl
theorem q2317 : (Jvm.Cond.instanceMethod ({ cls := "CodeLayout", name := "newest", desc := "(J)J" } : Jvm.MethodName)) ∈ lw_all := lw_g (lw_at lw_m9 172 rfl) rfl
theorem q2318 : (Jvm.Cond.selects "CodeLayout" ({ cls := "CodeLayout", name := "newest", desc := "(J)J" } : Jvm.MethodName) ({ cls := "CodeLayout", name := "newest", desc := "(J)J" } : Jvm.MethodName)) ∈ lw_all := lw_g (lw_at lw_m9 173 rfl) rfl
theorem q2319 : (Jvm.Cond.code ({ cls := "CodeLayout", name := "newest", desc := "(J)J" } : Jvm.MethodName) prog_1_method_43_code (4 : Nat) (Option.some Jvm.ClassFile.FieldType.long)) ∈ lw_all := lw_g (lw_at lw_m9 174 rfl) rfl
theorem q2320 : (Jvm.Cond.methodLink "CodeLayout" (427 : Nat) ({ cls := "CodeLayout$Memory", name := "blockAt", desc := "(IJ)I" } : Jvm.MethodName)) ∈ lw_all := lw_g (lw_at lw_m9 175 rfl) rfl
theorem q2321 : (Jvm.Cond.methodLink "CodeLayoutLaw" (139 : Nat) ({ cls := "CodeLayout", name := "trace", desc := "(III)J" } : Jvm.MethodName)) ∈ lw_all := lw_g (lw_at lw_m9 176 rfl) rfl
theorem q2322 : (Jvm.Cond.instanceMethod ({ cls := "CodeLayout", name := "trace", desc := "(III)J" } : Jvm.MethodName)) ∈ lw_all := lw_g (lw_at lw_m9 177 rfl) rfl
theorem q2323 : (Jvm.Cond.selects "CodeLayout" ({ cls := "CodeLayout", name := "trace", desc := "(III)J" } : Jvm.MethodName) ({ cls := "CodeLayout", name := "trace", desc := "(III)J" } : Jvm.MethodName)) ∈ lw_all := lw_g (lw_at lw_m9 178 rfl) rfl
theorem q2324 : (Jvm.Cond.code ({ cls := "CodeLayout", name := "trace", desc := "(III)J" } : Jvm.MethodName) prog_1_method_44_code (4 : Nat) (Option.some Jvm.ClassFile.FieldType.long)) ∈ lw_all := lw_g (lw_at lw_m9 179 rfl) rfl
theorem q2325 : (Jvm.Cond.methodLink "CodeLayoutLaw" (144 : Nat) ({ cls := "CodeLayout", name := "text", desc := "(II)I" } : Jvm.MethodName)) ∈ lw_all := lw_g (lw_at lw_m9 180 rfl) rfl
theorem q2326 : (Jvm.Cond.instanceMethod ({ cls := "CodeLayout", name := "text", desc := "(II)I" } : Jvm.MethodName)) ∈ lw_all := lw_g (lw_at lw_m9 181 rfl) rfl
theorem q2327 : (Jvm.Cond.selects "CodeLayout" ({ cls := "CodeLayout", name := "text", desc := "(II)I" } : Jvm.MethodName) ({ cls := "CodeLayout", name := "text", desc := "(II)I" } : Jvm.MethodName)) ∈ lw_all := lw_g (lw_at lw_m9 182 rfl) rfl
theorem q2328 : (Jvm.Cond.code ({ cls := "CodeLayout", name := "text", desc := "(II)I" } : Jvm.MethodName) prog_1_method_45_code (3 : Nat) (Option.some Jvm.ClassFile.FieldType.int)) ∈ lw_all := lw_g (lw_at lw_m9 183 rfl) rfl
theorem q2329 : (Jvm.Cond.classLink "CodeLayoutLaw" (10 : Nat) "CodeLayoutModel") ∈ lw_all := lw_g (lw_at lw_m9 184 rfl) rfl
theorem q2330 : (Jvm.Cond.instantiable "CodeLayoutModel" (64 : Nat)) ∈ lw_all := lw_g (lw_at lw_m9 185 rfl) rfl
theorem q2331 : (Jvm.Cond.methodLink "CodeLayoutLaw" (12 : Nat) ({ cls := "CodeLayoutModel", name := "<init>", desc := "()V" } : Jvm.MethodName)) ∈ lw_all := lw_g (lw_at lw_m9 186 rfl) rfl
theorem q2332 : (Jvm.Cond.instanceMethod ({ cls := "CodeLayoutModel", name := "<init>", desc := "()V" } : Jvm.MethodName)) ∈ lw_all := lw_g (lw_at lw_m9 187 rfl) rfl
theorem q2333 : (Jvm.Cond.code ({ cls := "CodeLayoutModel", name := "<init>", desc := "()V" } : Jvm.MethodName) prog_16_method_1_code (1 : Nat) (Option.none : Option Jvm.ClassFile.FieldType)) ∈ lw_all := lw_g (lw_at lw_m9 188 rfl) rfl
theorem q2334 : (Jvm.Cond.methodLink "CodeLayoutModel" (1 : Nat) ({ cls := "java/lang/Object", name := "<init>", desc := "()V" } : Jvm.MethodName)) ∈ lw_all := lw_g (lw_at lw_m9 189 rfl) rfl
theorem q2335 : (Jvm.Cond.constant "CodeLayoutModel" (9 : Nat) (60000 : Int32)) ∈ lw_all := lw_g (lw_at lw_m9 190 rfl) rfl
theorem q2336 : (Jvm.Cond.classLink "CodeLayoutModel" (20 : Nat) "CodeLayoutModel$Heads") ∈ lw_all := lw_g (lw_at lw_m9 191 rfl) rfl
theorem q2337 : (Jvm.Cond.instantiable "CodeLayoutModel$Heads" (18 : Nat)) ∈ lw_all := lw_g (lw_at lw_m9 192 rfl) rfl
theorem q2338 : (Jvm.Cond.methodLinkNest "CodeLayoutModel" (22 : Nat) ({ cls := "CodeLayoutModel$Heads", name := "<init>", desc := "()V" } : Jvm.MethodName) "CodeLayoutModel") ∈ lw_tbl := lw_at lw_m9 193 rfl
theorem q2339 : (Jvm.Cond.instanceMethod ({ cls := "CodeLayoutModel$Heads", name := "<init>", desc := "()V" } : Jvm.MethodName)) ∈ lw_all := lw_g (lw_at lw_m9 194 rfl) rfl
theorem q2340 : (Jvm.Cond.code ({ cls := "CodeLayoutModel$Heads", name := "<init>", desc := "()V" } : Jvm.MethodName) prog_17_method_1_code (1 : Nat) (Option.none : Option Jvm.ClassFile.FieldType)) ∈ lw_all := lw_g (lw_at lw_m9 195 rfl) rfl
theorem q2341 : (Jvm.Cond.methodLink "CodeLayoutModel$Heads" (1 : Nat) ({ cls := "java/lang/Object", name := "<init>", desc := "()V" } : Jvm.MethodName)) ∈ lw_all := lw_g (lw_at lw_m9 196 rfl) rfl
theorem q2342 : (Jvm.Cond.fieldLink "CodeLayoutModel$Heads" (38 : Nat) "CodeLayoutModel$Heads" "b" "[B") ∈ lw_all := lw_g (lw_at lw_m9 197 rfl) rfl
theorem q2343 : (Jvm.Cond.fieldLink "CodeLayoutModel" (251 : Nat) "CodeLayoutModel$Heads" "b" "[B") ∈ lw_all := lw_g (lw_at lw_m9 198 rfl) rfl
theorem q2344 : (Jvm.Cond.fieldLink "CodeLayoutModel$Heads" (84 : Nat) "CodeLayoutModel$Heads" "size" "I") ∈ lw_all := lw_g (lw_at lw_m9 199 rfl) rfl
theorem q2345 : (Jvm.Cond.fieldLink "CodeLayoutModel" (254 : Nat) "CodeLayoutModel$Heads" "size" "I") ∈ lw_all := lw_g (lw_at lw_m9 200 rfl) rfl
theorem q2346 : (Jvm.Cond.fieldLink "CodeLayoutModel$Run" (165 : Nat) "CodeLayoutModel$Heads" "segments" "I") ∈ lw_all := lw_g (lw_at lw_m9 201 rfl) rfl
theorem q2347 : (Jvm.Cond.fieldLink "CodeLayoutModel$Heads" (121 : Nat) "CodeLayoutModel$Heads" "segments" "I") ∈ lw_all := lw_g (lw_at lw_m9 202 rfl) rfl
theorem q2348 : (Jvm.Cond.fieldLink "CodeLayoutModel" (545 : Nat) "CodeLayoutModel$Heads" "segments" "I") ∈ lw_all := lw_g (lw_at lw_m9 203 rfl) rfl
theorem q2349 : (Jvm.Cond.fieldLink "CodeLayoutModel$Run" (121 : Nat) "CodeLayoutModel$Heads" "sections" "I") ∈ lw_all := lw_g (lw_at lw_m9 204 rfl) rfl
theorem q2350 : (Jvm.Cond.fieldLink "CodeLayoutModel$Heads" (126 : Nat) "CodeLayoutModel$Heads" "sections" "I") ∈ lw_all := lw_g (lw_at lw_m9 205 rfl) rfl
theorem q2351 : (Jvm.Cond.fieldLink "CodeLayoutModel" (333 : Nat) "CodeLayoutModel$Heads" "sections" "I") ∈ lw_all := lw_g (lw_at lw_m9 206 rfl) rfl
theorem q2352 : (Jvm.Cond.fieldLink "CodeLayoutModel$Heads" (131 : Nat) "CodeLayoutModel$Heads" "names" "I") ∈ lw_all := lw_g (lw_at lw_m9 207 rfl) rfl
theorem q2353 : (Jvm.Cond.fieldLink "CodeLayoutModel$Heads" (141 : Nat) "CodeLayoutModel$Heads" "shoff" "J") ∈ lw_all := lw_g (lw_at lw_m9 208 rfl) rfl
theorem q2354 : (Jvm.Cond.fieldLink "CodeLayoutModel" (542 : Nat) "CodeLayoutModel$Heads" "shoff" "J") ∈ lw_all := lw_g (lw_at lw_m9 209 rfl) rfl
theorem q2355 : (Jvm.Cond.fieldLink "CodeLayoutModel$Heads" (7 : Nat) "CodeLayoutModel$Heads" "flags" "[I") ∈ lw_all := lw_g (lw_at lw_m9 210 rfl) rfl
theorem q2356 : (Jvm.Cond.fieldLink "CodeLayoutModel$Run" (177 : Nat) "CodeLayoutModel$Heads" "flags" "[I") ∈ lw_all := lw_g (lw_at lw_m9 211 rfl) rfl
theorem q2357 : (Jvm.Cond.fieldLink "CodeLayoutModel$Heads" (13 : Nat) "CodeLayoutModel$Heads" "offset" "[I") ∈ lw_all := lw_g (lw_at lw_m9 212 rfl) rfl
theorem q2358 : (Jvm.Cond.fieldLink "CodeLayoutModel$Run" (174 : Nat) "CodeLayoutModel$Heads" "offset" "[I") ∈ lw_all := lw_g (lw_at lw_m9 213 rfl) rfl
theorem q2359 : (Jvm.Cond.fieldLink "CodeLayoutModel$Heads" (16 : Nat) "CodeLayoutModel$Heads" "address" "[J") ∈ lw_all := lw_g (lw_at lw_m9 214 rfl) rfl
theorem q2360 : (Jvm.Cond.fieldLink "CodeLayoutModel$Run" (168 : Nat) "CodeLayoutModel$Heads" "address" "[J") ∈ lw_all := lw_g (lw_at lw_m9 215 rfl) rfl
theorem q2361 : (Jvm.Cond.fieldLink "CodeLayoutModel$Heads" (20 : Nat) "CodeLayoutModel$Heads" "length" "[I") ∈ lw_all := lw_g (lw_at lw_m9 216 rfl) rfl
theorem q2362 : (Jvm.Cond.fieldLink "CodeLayoutModel$Run" (171 : Nat) "CodeLayoutModel$Heads" "length" "[I") ∈ lw_all := lw_g (lw_at lw_m9 217 rfl) rfl
theorem q2363 : (Jvm.Cond.fieldLink "CodeLayoutModel$Heads" (23 : Nat) "CodeLayoutModel$Heads" "type" "[I") ∈ lw_all := lw_g (lw_at lw_m9 218 rfl) rfl
theorem q2364 : (Jvm.Cond.fieldLink "CodeLayoutModel$Heads" (26 : Nat) "CodeLayoutModel$Heads" "kind" "[I") ∈ lw_all := lw_g (lw_at lw_m9 219 rfl) rfl
theorem q2365 : (Jvm.Cond.fieldLink "CodeLayoutModel$Heads" (29 : Nat) "CodeLayoutModel$Heads" "from" "[J") ∈ lw_all := lw_g (lw_at lw_m9 220 rfl) rfl
theorem q2366 : (Jvm.Cond.fieldLink "CodeLayoutModel$Run" (133 : Nat) "CodeLayoutModel$Heads" "from" "[J") ∈ lw_all := lw_g (lw_at lw_m9 221 rfl) rfl
theorem q2367 : (Jvm.Cond.fieldLink "CodeLayoutModel" (301 : Nat) "CodeLayoutModel$Heads" "from" "[J") ∈ lw_all := lw_g (lw_at lw_m9 222 rfl) rfl
theorem q2368 : (Jvm.Cond.fieldLink "CodeLayoutModel$Heads" (32 : Nat) "CodeLayoutModel$Heads" "at" "[J") ∈ lw_all := lw_g (lw_at lw_m9 223 rfl) rfl
theorem q2369 : (Jvm.Cond.fieldLink "CodeLayoutModel$Run" (149 : Nat) "CodeLayoutModel$Heads" "at" "[J") ∈ lw_all := lw_g (lw_at lw_m9 224 rfl) rfl
theorem q2370 : (Jvm.Cond.fieldLink "CodeLayoutModel" (307 : Nat) "CodeLayoutModel$Heads" "at" "[J") ∈ lw_all := lw_g (lw_at lw_m9 225 rfl) rfl
theorem q2371 : (Jvm.Cond.fieldLink "CodeLayoutModel$Heads" (35 : Nat) "CodeLayoutModel$Heads" "bytes" "[J") ∈ lw_all := lw_g (lw_at lw_m9 226 rfl) rfl
theorem q2372 : (Jvm.Cond.fieldLink "CodeLayoutModel$Run" (136 : Nat) "CodeLayoutModel$Heads" "bytes" "[J") ∈ lw_all := lw_g (lw_at lw_m9 227 rfl) rfl
theorem q2373 : (Jvm.Cond.fieldLink "CodeLayoutModel" (313 : Nat) "CodeLayoutModel$Heads" "bytes" "[J") ∈ lw_all := lw_g (lw_at lw_m9 228 rfl) rfl
theorem q2374 : (Jvm.Cond.fieldLink "CodeLayoutModel$Run" (131 : Nat) "CodeLayoutModel$Heads" "text" "I") ∈ lw_all := lw_g (lw_at lw_m9 229 rfl) rfl
theorem q2375 : (Jvm.Cond.fieldLink "CodeLayoutModel$Heads" (80 : Nat) "CodeLayoutModel$Heads" "text" "I") ∈ lw_all := lw_g (lw_at lw_m9 230 rfl) rfl
theorem q2376 : (Jvm.Cond.fieldLink "CodeLayoutModel" (298 : Nat) "CodeLayoutModel$Heads" "text" "I") ∈ lw_all := lw_g (lw_at lw_m9 231 rfl) rfl
theorem q2377 : (Jvm.Cond.fieldLink "CodeLayoutModel$Heads" (160 : Nat) "CodeLayoutModel$Heads" "symbols" "I") ∈ lw_all := lw_g (lw_at lw_m9 232 rfl) rfl
theorem q2378 : (Jvm.Cond.fieldLink "CodeLayoutModel$Heads" (48 : Nat) "CodeLayoutModel$Heads" "place" "J") ∈ lw_all := lw_g (lw_at lw_m9 233 rfl) rfl
theorem q2379 : (Jvm.Cond.fieldLink "CodeLayoutModel" (261 : Nat) "CodeLayoutModel$Heads" "place" "J") ∈ lw_all := lw_g (lw_at lw_m9 234 rfl) rfl
theorem q2417 : (Jvm.Cond.constantLong "CodeLayoutModel" (30 : Nat) (-1 : Int64)) ∈ lw_all := lw_g (lw_at lw_m10 32 rfl) rfl
theorem q2418 : (Jvm.Cond.classLink "CodeLayoutModel" (138 : Nat) "CodeLayoutModel$Written") ∈ lw_all := lw_g (lw_at lw_m10 33 rfl) rfl
theorem q2419 : (Jvm.Cond.instantiable "CodeLayoutModel$Written" (14 : Nat)) ∈ lw_all := lw_g (lw_at lw_m10 34 rfl) rfl
theorem q2420 : (Jvm.Cond.methodLink "CodeLayoutModel" (140 : Nat) ({ cls := "CodeLayoutModel$Written", name := "<init>", desc := "(LCodeLayoutModel;)V" } : Jvm.MethodName)) ∈ lw_all := lw_g (lw_at lw_m10 35 rfl) rfl
theorem q2421 : (Jvm.Cond.instanceMethod ({ cls := "CodeLayoutModel$Written", name := "<init>", desc := "(LCodeLayoutModel;)V" } : Jvm.MethodName)) ∈ lw_all := lw_g (lw_at lw_m10 36 rfl) rfl
theorem q2422 : (Jvm.Cond.code ({ cls := "CodeLayoutModel$Written", name := "<init>", desc := "(LCodeLayoutModel;)V" } : Jvm.MethodName) prog_19_method_1_code (2 : Nat) (Option.none : Option Jvm.ClassFile.FieldType)) ∈ lw_all := lw_g (lw_at lw_m10 37 rfl) rfl
theorem q2423 : (Jvm.Cond.methodLink "CodeLayoutModel$Written" (3 : Nat) ({ cls := "java/lang/Object", name := "<init>", desc := "()V" } : Jvm.MethodName)) ∈ lw_all := lw_g (lw_at lw_m10 38 rfl) rfl
theorem q2424 : (Jvm.Cond.fieldLink "CodeLayoutModel$Written" (32 : Nat) "CodeLayoutModel$Written" "m" "LCodeLayoutModel;") ∈ lw_all := lw_g (lw_at lw_m10 39 rfl) rfl
theorem q2425 : (Jvm.Cond.fieldLink "CodeLayoutModel$Written" (9 : Nat) "CodeLayoutModel$Written" "order" "[I") ∈ lw_all := lw_g (lw_at lw_m10 40 rfl) rfl
theorem q2426 : (Jvm.Cond.fieldLink "CodeLayoutModel" (478 : Nat) "CodeLayoutModel$Written" "order" "[I") ∈ lw_all := lw_g (lw_at lw_m10 41 rfl) rfl
theorem q2427 : (Jvm.Cond.fieldLink "CodeLayoutModel$Written" (52 : Nat) "CodeLayoutModel$Written" "hot" "I") ∈ lw_all := lw_g (lw_at lw_m10 42 rfl) rfl
theorem q2428 : (Jvm.Cond.fieldLink "CodeLayoutModel" (481 : Nat) "CodeLayoutModel$Written" "hot" "I") ∈ lw_all := lw_g (lw_at lw_m10 43 rfl) rfl
theorem q2429 : (Jvm.Cond.fieldLink "CodeLayoutModel$Written" (15 : Nat) "CodeLayoutModel$Written" "at" "[I") ∈ lw_all := lw_g (lw_at lw_m10 44 rfl) rfl
theorem q2430 : (Jvm.Cond.fieldLink "CodeLayoutModel" (499 : Nat) "CodeLayoutModel$Written" "at" "[I") ∈ lw_all := lw_g (lw_at lw_m10 45 rfl) rfl
theorem q2431 : (Jvm.Cond.fieldLink "CodeLayoutModel$Written" (18 : Nat) "CodeLayoutModel$Written" "how" "[B") ∈ lw_all := lw_g (lw_at lw_m10 46 rfl) rfl
theorem q2432 : (Jvm.Cond.fieldLink "CodeLayoutModel$Written" (22 : Nat) "CodeLayoutModel$Written" "isLong" "[Z") ∈ lw_all := lw_g (lw_at lw_m10 47 rfl) rfl
theorem q2433 : (Jvm.Cond.fieldLink "CodeLayoutModel$Written" (26 : Nat) "CodeLayoutModel$Written" "hasB" "[Z") ∈ lw_all := lw_g (lw_at lw_m10 48 rfl) rfl
theorem q2434 : (Jvm.Cond.fieldLink "CodeLayoutModel$Written" (29 : Nat) "CodeLayoutModel$Written" "next" "[I") ∈ lw_all := lw_g (lw_at lw_m10 49 rfl) rfl
theorem q2435 : (Jvm.Cond.fieldLink "CodeLayoutModel$Written" (76 : Nat) "CodeLayoutModel$Written" "count" "I") ∈ lw_all := lw_g (lw_at lw_m10 50 rfl) rfl
theorem q2436 : (Jvm.Cond.fieldLink "CodeLayoutModel$Run" (184 : Nat) "CodeLayoutModel$Written" "count" "I") ∈ lw_all := lw_g (lw_at lw_m10 51 rfl) rfl
theorem q2437 : (Jvm.Cond.fieldLink "CodeLayoutModel" (491 : Nat) "CodeLayoutModel$Written" "count" "I") ∈ lw_all := lw_g (lw_at lw_m10 52 rfl) rfl
theorem q2438 : (Jvm.Cond.fieldLink "CodeLayoutModel$Written" (116 : Nat) "CodeLayoutModel$Written" "astray" "I") ∈ lw_all := lw_g (lw_at lw_m10 53 rfl) rfl
theorem q2439 : (Jvm.Cond.fieldLink "CodeLayoutModel" (512 : Nat) "CodeLayoutModel$Written" "astray" "I") ∈ lw_all := lw_g (lw_at lw_m10 54 rfl) rfl
theorem q2440 : (Jvm.Cond.fieldLink "CodeLayoutModel$Written" (36 : Nat) "CodeLayoutModel$Written" "longs" "I") ∈ lw_all := lw_g (lw_at lw_m10 55 rfl) rfl
theorem q2441 : (Jvm.Cond.fieldLink "CodeLayoutModel" (566 : Nat) "CodeLayoutModel$Written" "longs" "I") ∈ lw_all := lw_g (lw_at lw_m10 56 rfl) rfl
theorem q2442 : (Jvm.Cond.fieldLink "CodeLayoutModel$Written" (40 : Nat) "CodeLayoutModel$Written" "left" "I") ∈ lw_all := lw_g (lw_at lw_m10 57 rfl) rfl
theorem q2443 : (Jvm.Cond.fieldLink "CodeLayoutModel" (569 : Nat) "CodeLayoutModel$Written" "left" "I") ∈ lw_all := lw_g (lw_at lw_m10 58 rfl) rfl
theorem q2444 : (Jvm.Cond.fieldLink "CodeLayoutModel$Written" (43 : Nat) "CodeLayoutModel$Written" "over" "I") ∈ lw_all := lw_g (lw_at lw_m10 59 rfl) rfl
theorem q2445 : (Jvm.Cond.fieldLink "CodeLayoutModel" (572 : Nat) "CodeLayoutModel$Written" "over" "I") ∈ lw_all := lw_g (lw_at lw_m10 60 rfl) rfl
theorem q2446 : (Jvm.Cond.fieldLink "CodeLayoutModel$Written" (46 : Nat) "CodeLayoutModel$Written" "put" "I") ∈ lw_all := lw_g (lw_at lw_m10 61 rfl) rfl
theorem q2447 : (Jvm.Cond.fieldLink "CodeLayoutModel" (575 : Nat) "CodeLayoutModel$Written" "put" "I") ∈ lw_all := lw_g (lw_at lw_m10 62 rfl) rfl
theorem q2477 : (Jvm.Cond.constant "CodeLayoutModel" (150 : Nat) (2400000 : Int32)) ∈ lw_all := lw_g (lw_at lw_m10 92 rfl) rfl
theorem q2478 : (Jvm.Cond.classLink "CodeLayoutModel" (163 : Nat) "CodeLayoutModel$Run") ∈ lw_all := lw_g (lw_at lw_m10 93 rfl) rfl
theorem q2479 : (Jvm.Cond.instantiable "CodeLayoutModel$Run" (24 : Nat)) ∈ lw_all := lw_g (lw_at lw_m10 94 rfl) rfl
theorem q2480 : (Jvm.Cond.methodLink "CodeLayoutModel" (165 : Nat) ({ cls := "CodeLayoutModel$Run", name := "<init>", desc := "(LCodeLayoutModel;I)V" } : Jvm.MethodName)) ∈ lw_all := lw_g (lw_at lw_m10 95 rfl) rfl
theorem q2481 : (Jvm.Cond.instanceMethod ({ cls := "CodeLayoutModel$Run", name := "<init>", desc := "(LCodeLayoutModel;I)V" } : Jvm.MethodName)) ∈ lw_all := lw_g (lw_at lw_m10 96 rfl) rfl
theorem q2482 : (Jvm.Cond.code ({ cls := "CodeLayoutModel$Run", name := "<init>", desc := "(LCodeLayoutModel;I)V" } : Jvm.MethodName) prog_18_method_1_code (3 : Nat) (Option.none : Option Jvm.ClassFile.FieldType)) ∈ lw_all := lw_g (lw_at lw_m10 97 rfl) rfl
theorem q2483 : (Jvm.Cond.methodLink "CodeLayoutModel$Run" (3 : Nat) ({ cls := "java/lang/Object", name := "<init>", desc := "()V" } : Jvm.MethodName)) ∈ lw_all := lw_g (lw_at lw_m10 98 rfl) rfl
theorem q2484 : (Jvm.Cond.constant "CodeLayoutModel$Run" (23 : Nat) (125536 : Int32)) ∈ lw_all := lw_g (lw_at lw_m10 99 rfl) rfl
theorem q2485 : (Jvm.Cond.fieldLink "CodeLayoutModel$Run" (42 : Nat) "CodeLayoutModel$Run" "m" "LCodeLayoutModel;") ∈ lw_all := lw_g (lw_at lw_m10 100 rfl) rfl
theorem q2486 : (Jvm.Cond.fieldLink "CodeLayoutModel$Run" (46 : Nat) "CodeLayoutModel$Run" "which" "I") ∈ lw_all := lw_g (lw_at lw_m10 101 rfl) rfl
theorem q2487 : (Jvm.Cond.fieldLink "CodeLayoutModel$Run" (50 : Nat) "CodeLayoutModel$Run" "isThere" "Z") ∈ lw_all := lw_g (lw_at lw_m10 102 rfl) rfl
theorem q2488 : (Jvm.Cond.fieldLink "CodeLayoutModel" (584 : Nat) "CodeLayoutModel$Run" "isThere" "Z") ∈ lw_all := lw_g (lw_at lw_m10 103 rfl) rfl
theorem q2489 : (Jvm.Cond.fieldLink "CodeLayoutModel$Run" (9 : Nat) "CodeLayoutModel$Run" "x" "[J") ∈ lw_all := lw_g (lw_at lw_m10 104 rfl) rfl
theorem q2490 : (Jvm.Cond.fieldLink "CodeLayoutModel" (623 : Nat) "CodeLayoutModel$Run" "x" "[J") ∈ lw_all := lw_g (lw_at lw_m10 105 rfl) rfl
theorem q2491 : (Jvm.Cond.fieldLink "CodeLayoutModel$Run" (15 : Nat) "CodeLayoutModel$Run" "mark" "[B") ∈ lw_all := lw_g (lw_at lw_m10 106 rfl) rfl
theorem q2492 : (Jvm.Cond.fieldLink "CodeLayoutModel" (626 : Nat) "CodeLayoutModel$Run" "mark" "[B") ∈ lw_all := lw_g (lw_at lw_m10 107 rfl) rfl
theorem q2493 : (Jvm.Cond.fieldLink "CodeLayoutModel$Run" (19 : Nat) "CodeLayoutModel$Run" "of" "[I") ∈ lw_all := lw_g (lw_at lw_m10 108 rfl) rfl
theorem q2494 : (Jvm.Cond.fieldLink "CodeLayoutModel" (629 : Nat) "CodeLayoutModel$Run" "of" "[I") ∈ lw_all := lw_g (lw_at lw_m10 109 rfl) rfl
theorem q2495 : (Jvm.Cond.fieldLink "CodeLayoutModel$Run" (56 : Nat) "CodeLayoutModel$Run" "n" "Z") ∈ lw_all := lw_g (lw_at lw_m10 110 rfl) rfl
theorem q2496 : (Jvm.Cond.fieldLink "CodeLayoutModel" (602 : Nat) "CodeLayoutModel$Run" "n" "Z") ∈ lw_all := lw_g (lw_at lw_m10 111 rfl) rfl
theorem q2497 : (Jvm.Cond.fieldLink "CodeLayoutModel$Run" (59 : Nat) "CodeLayoutModel$Run" "z" "Z") ∈ lw_all := lw_g (lw_at lw_m10 112 rfl) rfl
theorem q2498 : (Jvm.Cond.fieldLink "CodeLayoutModel" (605 : Nat) "CodeLayoutModel$Run" "z" "Z") ∈ lw_all := lw_g (lw_at lw_m10 113 rfl) rfl
theorem q2499 : (Jvm.Cond.fieldLink "CodeLayoutModel$Run" (62 : Nat) "CodeLayoutModel$Run" "c" "Z") ∈ lw_all := lw_g (lw_at lw_m10 114 rfl) rfl
theorem q2500 : (Jvm.Cond.fieldLink "CodeLayoutModel" (608 : Nat) "CodeLayoutModel$Run" "c" "Z") ∈ lw_all := lw_g (lw_at lw_m10 115 rfl) rfl
theorem q2501 : (Jvm.Cond.fieldLink "CodeLayoutModel$Run" (65 : Nat) "CodeLayoutModel$Run" "v" "Z") ∈ lw_all := lw_g (lw_at lw_m10 116 rfl) rfl
theorem q2502 : (Jvm.Cond.fieldLink "CodeLayoutModel" (611 : Nat) "CodeLayoutModel$Run" "v" "Z") ∈ lw_all := lw_g (lw_at lw_m10 117 rfl) rfl
theorem q2503 : (Jvm.Cond.fieldLink "CodeLayoutModel$Run" (24 : Nat) "CodeLayoutModel$Run" "bytes" "[B") ∈ lw_all := lw_g (lw_at lw_m10 118 rfl) rfl
theorem q2504 : (Jvm.Cond.fieldLink "CodeLayoutModel" (641 : Nat) "CodeLayoutModel$Run" "bytes" "[B") ∈ lw_all := lw_g (lw_at lw_m10 119 rfl) rfl
theorem q2505 : (Jvm.Cond.fieldLink "CodeLayoutModel$Run" (27 : Nat) "CodeLayoutModel$Run" "marks" "[B") ∈ lw_all := lw_g (lw_at lw_m10 120 rfl) rfl
theorem q2506 : (Jvm.Cond.fieldLink "CodeLayoutModel" (645 : Nat) "CodeLayoutModel$Run" "marks" "[B") ∈ lw_all := lw_g (lw_at lw_m10 121 rfl) rfl
theorem q2507 : (Jvm.Cond.fieldLink "CodeLayoutModel$Run" (30 : Nat) "CodeLayoutModel$Run" "ofs" "[I") ∈ lw_all := lw_g (lw_at lw_m10 122 rfl) rfl
theorem q2508 : (Jvm.Cond.fieldLink "CodeLayoutModel" (651 : Nat) "CodeLayoutModel$Run" "ofs" "[I") ∈ lw_all := lw_g (lw_at lw_m10 123 rfl) rfl
theorem q2509 : (Jvm.Cond.fieldLink "CodeLayoutModel$Run" (33 : Nat) "CodeLayoutModel$Run" "visited" "[I") ∈ lw_all := lw_g (lw_at lw_m10 124 rfl) rfl
theorem q2510 : (Jvm.Cond.fieldLink "CodeLayoutModel" (635 : Nat) "CodeLayoutModel$Run" "visited" "[I") ∈ lw_all := lw_g (lw_at lw_m10 125 rfl) rfl
theorem q2511 : (Jvm.Cond.fieldLink "CodeLayoutModel$Run" (77 : Nat) "CodeLayoutModel$Run" "visits" "I") ∈ lw_all := lw_g (lw_at lw_m10 126 rfl) rfl
theorem q2512 : (Jvm.Cond.fieldLink "CodeLayoutModel" (597 : Nat) "CodeLayoutModel$Run" "visits" "I") ∈ lw_all := lw_g (lw_at lw_m10 127 rfl) rfl
theorem q2513 : (Jvm.Cond.fieldLink "CodeLayoutModel$Run" (80 : Nat) "CodeLayoutModel$Run" "asked" "I") ∈ lw_all := lw_g (lw_at lw_m10 128 rfl) rfl
theorem q2514 : (Jvm.Cond.fieldLink "CodeLayoutModel$Run" (83 : Nat) "CodeLayoutModel$Run" "wordsSeen" "I") ∈ lw_all := lw_g (lw_at lw_m10 129 rfl) rfl
theorem q2515 : (Jvm.Cond.fieldLink "CodeLayoutModel$Run" (86 : Nat) "CodeLayoutModel$Run" "done" "I") ∈ lw_all := lw_g (lw_at lw_m10 130 rfl) rfl
theorem q2516 : (Jvm.Cond.fieldLink "CodeLayoutModel" (600 : Nat) "CodeLayoutModel$Run" "done" "I") ∈ lw_all := lw_g (lw_at lw_m10 131 rfl) rfl
theorem q2517 : (Jvm.Cond.fieldLink "CodeLayoutModel$Run" (115 : Nat) "CodeLayoutModel$Run" "outcome" "I") ∈ lw_all := lw_g (lw_at lw_m10 132 rfl) rfl
theorem q2518 : (Jvm.Cond.fieldLink "CodeLayoutModel" (620 : Nat) "CodeLayoutModel$Run" "outcome" "I") ∈ lw_all := lw_g (lw_at lw_m10 133 rfl) rfl
theorem q2519 : (Jvm.Cond.fieldLink "CodeLayoutModel$Run" (89 : Nat) "CodeLayoutModel$Run" "calls" "I") ∈ lw_all := lw_g (lw_at lw_m10 134 rfl) rfl
theorem q2520 : (Jvm.Cond.fieldLink "CodeLayoutModel" (614 : Nat) "CodeLayoutModel$Run" "calls" "I") ∈ lw_all := lw_g (lw_at lw_m10 135 rfl) rfl
theorem q2521 : (Jvm.Cond.fieldLink "CodeLayoutModel$Run" (92 : Nat) "CodeLayoutModel$Run" "told" "I") ∈ lw_all := lw_g (lw_at lw_m10 136 rfl) rfl
theorem q2522 : (Jvm.Cond.fieldLink "CodeLayoutModel" (617 : Nat) "CodeLayoutModel$Run" "told" "I") ∈ lw_all := lw_g (lw_at lw_m10 137 rfl) rfl
theorem q2523 : (Jvm.Cond.fieldLink "CodeLayoutModel$Run" (36 : Nat) "CodeLayoutModel$Run" "trace" "[J") ∈ lw_all := lw_g (lw_at lw_m10 138 rfl) rfl
theorem q2524 : (Jvm.Cond.fieldLink "CodeLayoutModel" (654 : Nat) "CodeLayoutModel$Run" "trace" "[J") ∈ lw_all := lw_g (lw_at lw_m10 139 rfl) rfl
theorem q2525 : (Jvm.Cond.fieldLink "CodeLayoutModel$Run" (39 : Nat) "CodeLayoutModel$Run" "text" "[B") ∈ lw_all := lw_g (lw_at lw_m10 140 rfl) rfl
theorem q2526 : (Jvm.Cond.fieldLink "CodeLayoutModel" (657 : Nat) "CodeLayoutModel$Run" "text" "[B") ∈ lw_all := lw_g (lw_at lw_m10 141 rfl) rfl
theorem q2527 : (Jvm.Cond.fieldLink "CodeLayoutModel$Run" (107 : Nat) "CodeLayoutModel$Run" "pc" "J") ∈ lw_all := lw_g (lw_at lw_m10 142 rfl) rfl
theorem q2577 : (Jvm.Cond.fieldLink "CodeLayoutModel" (10 : Nat) "CodeLayoutModel" "tray" "[B") ∈ lw_all := lw_g (lw_at lw_m10 192 rfl) rfl
theorem q2578 : (Jvm.Cond.fieldLink "CodeLayoutModel" (178 : Nat) "CodeLayoutModel" "trayed" "I") ∈ lw_all := lw_g (lw_at lw_m10 193 rfl) rfl
theorem q2579 : (Jvm.Cond.fieldLink "CodeLayoutModel" (182 : Nat) "CodeLayoutModel" "fed" "I") ∈ lw_all := lw_g (lw_at lw_m10 194 rfl) rfl
theorem q2580 : (Jvm.Cond.fieldLink "CodeLayoutModel" (14 : Nat) "CodeLayoutModel" "file" "[B") ∈ lw_all := lw_g (lw_at lw_m10 195 rfl) rfl
theorem q2581 : (Jvm.Cond.fieldLinkNest "CodeLayoutModel$Run" (71 : Nat) "CodeLayoutModel" "file" "[B" "CodeLayoutModel") ∈ lw_tbl := lw_at lw_m10 196 rfl
theorem q2582 : (Jvm.Cond.fieldLink "CodeLayoutModel" (17 : Nat) "CodeLayoutModel" "spare" "[B") ∈ lw_all := lw_g (lw_at lw_m10 197 rfl) rfl
theorem q2583 : (Jvm.Cond.fieldLink "CodeLayoutModel" (23 : Nat) "CodeLayoutModel" "heads" "LCodeLayoutModel$Heads;") ∈ lw_all := lw_g (lw_at lw_m10 198 rfl) rfl
theorem q2584 : (Jvm.Cond.fieldLinkNest "CodeLayoutModel$Run" (95 : Nat) "CodeLayoutModel" "heads" "LCodeLayoutModel$Heads;" "CodeLayoutModel") ∈ lw_tbl := lw_at lw_m10 199 rfl
theorem q2585 : (Jvm.Cond.fieldLinkNest "CodeLayoutModel$Written" (131 : Nat) "CodeLayoutModel" "heads" "LCodeLayoutModel$Heads;" "CodeLayoutModel") ∈ lw_tbl := lw_at lw_m10 200 rfl
theorem q2586 : (Jvm.Cond.fieldLink "CodeLayoutModel" (27 : Nat) "CodeLayoutModel" "spareHeads" "LCodeLayoutModel$Heads;") ∈ lw_all := lw_g (lw_at lw_m10 201 rfl) rfl
theorem q2587 : (Jvm.Cond.fieldLink "CodeLayoutModel" (265 : Nat) "CodeLayoutModel" "isRead" "Z") ∈ lw_all := lw_g (lw_at lw_m10 202 rfl) rfl
theorem q2588 : (Jvm.Cond.fieldLink "CodeLayoutModel" (269 : Nat) "CodeLayoutModel" "fileSize" "I") ∈ lw_all := lw_g (lw_at lw_m10 203 rfl) rfl
theorem q2589 : (Jvm.Cond.fieldLinkNest "CodeLayoutModel$Run" (68 : Nat) "CodeLayoutModel" "textAt" "I" "CodeLayoutModel") ∈ lw_tbl := lw_at lw_m10 204 rfl
theorem q2590 : (Jvm.Cond.fieldLink "CodeLayoutModel" (304 : Nat) "CodeLayoutModel" "textAt" "I") ∈ lw_all := lw_g (lw_at lw_m10 205 rfl) rfl
theorem q2591 : (Jvm.Cond.fieldLinkNest "CodeLayoutModel$Run" (189 : Nat) "CodeLayoutModel" "wordCount" "I" "CodeLayoutModel") ∈ lw_tbl := lw_at lw_m10 206 rfl
theorem q2592 : (Jvm.Cond.fieldLink "CodeLayoutModel" (316 : Nat) "CodeLayoutModel" "wordCount" "I") ∈ lw_all := lw_g (lw_at lw_m10 207 rfl) rfl
theorem q2593 : (Jvm.Cond.fieldLink "CodeLayoutModel" (281 : Nat) "CodeLayoutModel" "functions" "I") ∈ lw_all := lw_g (lw_at lw_m10 208 rfl) rfl
theorem q2594 : (Jvm.Cond.fieldLinkNest "CodeLayoutModel$Written" (49 : Nat) "CodeLayoutModel" "blocks" "I" "CodeLayoutModel") ∈ lw_tbl := lw_at lw_m10 209 rfl
theorem q2595 : (Jvm.Cond.fieldLink "CodeLayoutModel" (399 : Nat) "CodeLayoutModel" "blocks" "I") ∈ lw_all := lw_g (lw_at lw_m10 210 rfl) rfl
theorem q2596 : (Jvm.Cond.fieldLinkNest "CodeLayoutModel$Run" (159 : Nat) "CodeLayoutModel" "base" "J" "CodeLayoutModel") ∈ lw_tbl := lw_at lw_m10 211 rfl
theorem q2597 : (Jvm.Cond.fieldLinkNest "CodeLayoutModel$Written" (67 : Nat) "CodeLayoutModel" "base" "J" "CodeLayoutModel") ∈ lw_tbl := lw_at lw_m10 212 rfl
theorem q2598 : (Jvm.Cond.fieldLink "CodeLayoutModel" (310 : Nat) "CodeLayoutModel" "base" "J") ∈ lw_all := lw_g (lw_at lw_m10 213 rfl) rfl
theorem q2599 : (Jvm.Cond.fieldLink "CodeLayoutModel" (32 : Nat) "CodeLayoutModel" "place" "J") ∈ lw_all := lw_g (lw_at lw_m10 214 rfl) rfl
theorem q2600 : (Jvm.Cond.fieldLink "CodeLayoutModel" (36 : Nat) "CodeLayoutModel" "words" "[I") ∈ lw_all := lw_g (lw_at lw_m10 215 rfl) rfl
theorem q2601 : (Jvm.Cond.fieldLinkNest "CodeLayoutModel$Written" (86 : Nat) "CodeLayoutModel" "words" "[I" "CodeLayoutModel") ∈ lw_tbl := lw_at lw_m10 216 rfl
theorem q2602 : (Jvm.Cond.fieldLinkNest "CodeLayoutModel$Run" (272 : Nat) "CodeLayoutModel" "words" "[I" "CodeLayoutModel") ∈ lw_tbl := lw_at lw_m10 217 rfl
theorem q2603 : (Jvm.Cond.fieldLink "CodeLayoutModel" (40 : Nat) "CodeLayoutModel" "fixOf" "[I") ∈ lw_all := lw_g (lw_at lw_m10 218 rfl) rfl
theorem q2604 : (Jvm.Cond.fieldLinkNest "CodeLayoutModel$Written" (120 : Nat) "CodeLayoutModel" "fixOf" "[I" "CodeLayoutModel") ∈ lw_tbl := lw_at lw_m10 219 rfl
theorem q2605 : (Jvm.Cond.fieldLinkNest "CodeLayoutModel$Run" (336 : Nat) "CodeLayoutModel" "fixOf" "[I" "CodeLayoutModel") ∈ lw_tbl := lw_at lw_m10 220 rfl
theorem q2606 : (Jvm.Cond.fieldLink "CodeLayoutModel" (43 : Nat) "CodeLayoutModel" "blockOf" "[I") ∈ lw_all := lw_g (lw_at lw_m10 221 rfl) rfl
theorem q2607 : (Jvm.Cond.fieldLinkNest "CodeLayoutModel$Run" (156 : Nat) "CodeLayoutModel" "blockOf" "[I" "CodeLayoutModel") ∈ lw_tbl := lw_at lw_m10 222 rfl
theorem q2608 : (Jvm.Cond.fieldLinkNest "CodeLayoutModel$Written" (109 : Nat) "CodeLayoutModel" "blockOf" "[I" "CodeLayoutModel") ∈ lw_tbl := lw_at lw_m10 223 rfl
theorem q2609 : (Jvm.Cond.fieldLink "CodeLayoutModel" (46 : Nat) "CodeLayoutModel" "leads" "[Z") ∈ lw_all := lw_g (lw_at lw_m10 224 rfl) rfl
theorem q2610 : (Jvm.Cond.fieldLink "CodeLayoutModel" (50 : Nat) "CodeLayoutModel" "firstWord" "[I") ∈ lw_all := lw_g (lw_at lw_m10 225 rfl) rfl
theorem q2611 : (Jvm.Cond.fieldLink "CodeLayoutModel" (53 : Nat) "CodeLayoutModel" "wordsOf" "[I") ∈ lw_all := lw_g (lw_at lw_m10 226 rfl) rfl
theorem q2612 : (Jvm.Cond.fieldLink "CodeLayoutModel" (56 : Nat) "CodeLayoutModel" "firstBlock" "[I") ∈ lw_all := lw_g (lw_at lw_m10 227 rfl) rfl
theorem q2613 : (Jvm.Cond.fieldLink "CodeLayoutModel" (59 : Nat) "CodeLayoutModel" "begin" "[I") ∈ lw_all := lw_g (lw_at lw_m10 228 rfl) rfl
theorem q2614 : (Jvm.Cond.fieldLinkNest "CodeLayoutModel$Written" (96 : Nat) "CodeLayoutModel" "begin" "[I" "CodeLayoutModel") ∈ lw_tbl := lw_at lw_m10 229 rfl
theorem q2615 : (Jvm.Cond.fieldLinkNest "CodeLayoutModel$Run" (259 : Nat) "CodeLayoutModel" "begin" "[I" "CodeLayoutModel") ∈ lw_tbl := lw_at lw_m10 230 rfl
theorem q2616 : (Jvm.Cond.fieldLink "CodeLayoutModel" (62 : Nat) "CodeLayoutModel" "many" "[I") ∈ lw_all := lw_g (lw_at lw_m10 231 rfl) rfl
theorem q2617 : (Jvm.Cond.fieldLinkNest "CodeLayoutModel$Written" (64 : Nat) "CodeLayoutModel" "many" "[I" "CodeLayoutModel") ∈ lw_tbl := lw_at lw_m10 232 rfl
theorem q2618 : (Jvm.Cond.fieldLinkNest "CodeLayoutModel$Run" (262 : Nat) "CodeLayoutModel" "many" "[I" "CodeLayoutModel") ∈ lw_tbl := lw_at lw_m10 233 rfl
theorem q2619 : (Jvm.Cond.fieldLink "CodeLayoutModel" (65 : Nat) "CodeLayoutModel" "functionOf" "[I") ∈ lw_all := lw_g (lw_at lw_m10 234 rfl) rfl
theorem q2620 : (Jvm.Cond.fieldLink "CodeLayoutModel" (68 : Nat) "CodeLayoutModel" "ends" "[I") ∈ lw_all := lw_g (lw_at lw_m10 235 rfl) rfl
theorem q2621 : (Jvm.Cond.fieldLinkNest "CodeLayoutModel$Written" (58 : Nat) "CodeLayoutModel" "ends" "[I" "CodeLayoutModel") ∈ lw_tbl := lw_at lw_m10 236 rfl
theorem q2622 : (Jvm.Cond.fieldLink "CodeLayoutModel" (71 : Nat) "CodeLayoutModel" "taken" "[I") ∈ lw_all := lw_g (lw_at lw_m10 237 rfl) rfl
theorem q2623 : (Jvm.Cond.fieldLinkNest "CodeLayoutModel$Written" (61 : Nat) "CodeLayoutModel" "taken" "[I" "CodeLayoutModel") ∈ lw_tbl := lw_at lw_m10 238 rfl
theorem q2624 : (Jvm.Cond.fieldLink "CodeLayoutModel" (74 : Nat) "CodeLayoutModel" "isNamed" "[Z") ∈ lw_all := lw_g (lw_at lw_m10 239 rfl) rfl
theorem q2625 : (Jvm.Cond.fieldLink "CodeLayoutModel" (330 : Nat) "CodeLayoutModel" "fixes" "I") ∈ lw_all := lw_g (lw_at lw_m11 0 rfl) rfl
theorem q2626 : (Jvm.Cond.fieldLink "CodeLayoutModel" (272 : Nat) "CodeLayoutModel" "ways" "I") ∈ lw_all := lw_g (lw_at lw_m11 1 rfl) rfl
theorem q2627 : (Jvm.Cond.fieldLink "CodeLayoutModel" (77 : Nat) "CodeLayoutModel" "wayFrom" "[I") ∈ lw_all := lw_g (lw_at lw_m11 2 rfl) rfl
theorem q2628 : (Jvm.Cond.fieldLink "CodeLayoutModel" (80 : Nat) "CodeLayoutModel" "wayTo" "[I") ∈ lw_all := lw_g (lw_at lw_m11 3 rfl) rfl
theorem q2629 : (Jvm.Cond.fieldLink "CodeLayoutModel" (83 : Nat) "CodeLayoutModel" "isCall" "[Z") ∈ lw_all := lw_g (lw_at lw_m11 4 rfl) rfl
theorem q2630 : (Jvm.Cond.fieldLink "CodeLayoutModel" (86 : Nat) "CodeLayoutModel" "wayCount" "[J") ∈ lw_all := lw_g (lw_at lw_m11 5 rfl) rfl
theorem q2631 : (Jvm.Cond.fieldLink "CodeLayoutModel" (90 : Nat) "CodeLayoutModel" "isHot" "[Z") ∈ lw_all := lw_g (lw_at lw_m11 6 rfl) rfl
theorem q2632 : (Jvm.Cond.fieldLink "CodeLayoutModel" (93 : Nat) "CodeLayoutModel" "chain" "[I") ∈ lw_all := lw_g (lw_at lw_m11 7 rfl) rfl
theorem q2633 : (Jvm.Cond.fieldLink "CodeLayoutModel" (96 : Nat) "CodeLayoutModel" "behind" "[I") ∈ lw_all := lw_g (lw_at lw_m11 8 rfl) rfl
theorem q2634 : (Jvm.Cond.fieldLink "CodeLayoutModel" (99 : Nat) "CodeLayoutModel" "isPlaced" "[Z") ∈ lw_all := lw_g (lw_at lw_m11 9 rfl) rfl
theorem q2635 : (Jvm.Cond.fieldLink "CodeLayoutModel" (102 : Nat) "CodeLayoutModel" "row" "[I") ∈ lw_all := lw_g (lw_at lw_m11 10 rfl) rfl
theorem q2636 : (Jvm.Cond.fieldLink "CodeLayoutModel" (105 : Nat) "CodeLayoutModel" "plain" "[I") ∈ lw_all := lw_g (lw_at lw_m11 11 rfl) rfl
theorem q2637 : (Jvm.Cond.fieldLink "CodeLayoutModel" (108 : Nat) "CodeLayoutModel" "weights" "[J") ∈ lw_all := lw_g (lw_at lw_m11 12 rfl) rfl
theorem q2638 : (Jvm.Cond.fieldLink "CodeLayoutModel" (111 : Nat) "CodeLayoutModel" "weightsBefore" "[J") ∈ lw_all := lw_g (lw_at lw_m11 13 rfl) rfl
theorem q2639 : (Jvm.Cond.fieldLink "CodeLayoutModel" (114 : Nat) "CodeLayoutModel" "cluster" "[I") ∈ lw_all := lw_g (lw_at lw_m11 14 rfl) rfl
theorem q2640 : (Jvm.Cond.fieldLink "CodeLayoutModel" (117 : Nat) "CodeLayoutModel" "clusterPlace" "[I") ∈ lw_all := lw_g (lw_at lw_m11 15 rfl) rfl
theorem q2641 : (Jvm.Cond.fieldLink "CodeLayoutModel" (120 : Nat) "CodeLayoutModel" "clusterMany" "[I") ∈ lw_all := lw_g (lw_at lw_m11 16 rfl) rfl
theorem q2642 : (Jvm.Cond.fieldLink "CodeLayoutModel" (123 : Nat) "CodeLayoutModel" "clusterHeat" "[J") ∈ lw_all := lw_g (lw_at lw_m11 17 rfl) rfl
theorem q2643 : (Jvm.Cond.fieldLink "CodeLayoutModel" (126 : Nat) "CodeLayoutModel" "clusterSize" "[J") ∈ lw_all := lw_g (lw_at lw_m11 18 rfl) rfl
theorem q2644 : (Jvm.Cond.fieldLink "CodeLayoutModel" (129 : Nat) "CodeLayoutModel" "heats" "[J") ∈ lw_all := lw_g (lw_at lw_m11 19 rfl) rfl
theorem q2645 : (Jvm.Cond.fieldLink "CodeLayoutModel" (132 : Nat) "CodeLayoutModel" "one" "[I") ∈ lw_all := lw_g (lw_at lw_m11 20 rfl) rfl
theorem q2646 : (Jvm.Cond.fieldLink "CodeLayoutModel" (135 : Nat) "CodeLayoutModel" "sums" "[J") ∈ lw_all := lw_g (lw_at lw_m11 21 rfl) rfl
theorem q2647 : (Jvm.Cond.fieldLink "CodeLayoutModel" (143 : Nat) "CodeLayoutModel" "laid" "LCodeLayoutModel$Written;") ∈ lw_all := lw_g (lw_at lw_m11 22 rfl) rfl
theorem q2648 : (Jvm.Cond.fieldLinkNest "CodeLayoutModel$Run" (180 : Nat) "CodeLayoutModel" "laid" "LCodeLayoutModel$Written;" "CodeLayoutModel") ∈ lw_tbl := lw_at lw_m11 23 rfl
theorem q2649 : (Jvm.Cond.fieldLink "CodeLayoutModel" (147 : Nat) "CodeLayoutModel" "whole" "LCodeLayoutModel$Written;") ∈ lw_all := lw_g (lw_at lw_m11 24 rfl) rfl
theorem q2650 : (Jvm.Cond.fieldLinkNest "CodeLayoutModel$Run" (200 : Nat) "CodeLayoutModel" "isLaid" "Z" "CodeLayoutModel") ∈ lw_tbl := lw_at lw_m11 25 rfl
theorem q2651 : (Jvm.Cond.fieldLink "CodeLayoutModel" (275 : Nat) "CodeLayoutModel" "isLaid" "Z") ∈ lw_all := lw_g (lw_at lw_m11 26 rfl) rfl
theorem q2652 : (Jvm.Cond.fieldLink "CodeLayoutModel" (518 : Nat) "CodeLayoutModel" "strays" "I") ∈ lw_all := lw_g (lw_at lw_m11 27 rfl) rfl
theorem q2653 : (Jvm.Cond.fieldLink "CodeLayoutModel" (151 : Nat) "CodeLayoutModel" "out" "[B") ∈ lw_all := lw_g (lw_at lw_m11 28 rfl) rfl
theorem q2654 : (Jvm.Cond.fieldLinkNest "CodeLayoutModel$Run" (234 : Nat) "CodeLayoutModel" "out" "[B" "CodeLayoutModel") ∈ lw_tbl := lw_at lw_m11 29 rfl
theorem q2655 : (Jvm.Cond.fieldLink "CodeLayoutModel" (530 : Nat) "CodeLayoutModel" "outSize" "I") ∈ lw_all := lw_g (lw_at lw_m11 30 rfl) rfl
theorem q2656 : (Jvm.Cond.fieldLink "CodeLayoutModel" (527 : Nat) "CodeLayoutModel" "shift" "I") ∈ lw_all := lw_g (lw_at lw_m11 31 rfl) rfl
theorem q2657 : (Jvm.Cond.fieldLink "CodeLayoutModel" (521 : Nat) "CodeLayoutModel" "checked" "I") ∈ lw_all := lw_g (lw_at lw_m11 32 rfl) rfl
theorem q2658 : (Jvm.Cond.fieldLink "CodeLayoutModel" (154 : Nat) "CodeLayoutModel" "done" "[Z") ∈ lw_all := lw_g (lw_at lw_m11 33 rfl) rfl
theorem q2659 : (Jvm.Cond.fieldLink "CodeLayoutModel" (157 : Nat) "CodeLayoutModel" "inHot" "[Z") ∈ lw_all := lw_g (lw_at lw_m11 34 rfl) rfl
theorem q2660 : (Jvm.Cond.fieldLink "CodeLayoutModel" (160 : Nat) "CodeLayoutModel" "again" "LCodeLayoutModel$Heads;") ∈ lw_all := lw_g (lw_at lw_m11 35 rfl) rfl
theorem q2661 : (Jvm.Cond.fieldLink "CodeLayoutModel" (168 : Nat) "CodeLayoutModel" "run0" "LCodeLayoutModel$Run;") ∈ lw_all := lw_g (lw_at lw_m11 36 rfl) rfl
theorem q2662 : (Jvm.Cond.fieldLink "CodeLayoutModel" (172 : Nat) "CodeLayoutModel" "run1" "LCodeLayoutModel$Run;") ∈ lw_all := lw_g (lw_at lw_m11 37 rfl) rfl
theorem q2663 : (Jvm.Cond.fieldLink "CodeLayoutModel" (175 : Nat) "CodeLayoutModel" "run2" "LCodeLayoutModel$Run;") ∈ lw_all := lw_g (lw_at lw_m11 38 rfl) rfl
theorem q2793 : (Jvm.Cond.methodLink "CodeLayoutLaw" (17 : Nat) ({ cls := "CodeLayoutModel", name := "feed", desc := "(IIIII)I" } : Jvm.MethodName)) ∈ lw_all := lw_g (lw_at lw_m11 168 rfl) rfl
theorem q2794 : (Jvm.Cond.instanceMethod ({ cls := "CodeLayoutModel", name := "feed", desc := "(IIIII)I" } : Jvm.MethodName)) ∈ lw_all := lw_g (lw_at lw_m11 169 rfl) rfl
theorem q2795 : (Jvm.Cond.selects "CodeLayoutModel" ({ cls := "CodeLayoutModel", name := "feed", desc := "(IIIII)I" } : Jvm.MethodName) ({ cls := "CodeLayoutModel", name := "feed", desc := "(IIIII)I" } : Jvm.MethodName)) ∈ lw_all := lw_g (lw_at lw_m11 170 rfl) rfl
theorem q2796 : (Jvm.Cond.code ({ cls := "CodeLayoutModel", name := "feed", desc := "(IIIII)I" } : Jvm.MethodName) prog_16_method_4_code (6 : Nat) (Option.some Jvm.ClassFile.FieldType.int)) ∈ lw_all := lw_g (lw_at lw_m11 171 rfl) rfl
theorem q2797 : (Jvm.Cond.constant "CodeLayoutModel" (185 : Nat) (131072 : Int32)) ∈ lw_all := lw_g (lw_at lw_m11 172 rfl) rfl
theorem q2798 : (Jvm.Cond.methodLink "CodeLayoutModel" (186 : Nat) ({ cls := "CodeLayoutModel", name := "four", desc := "(I)V" } : Jvm.MethodName)) ∈ lw_all := lw_g (lw_at lw_m11 173 rfl) rfl
theorem q2800 : (Jvm.Cond.instanceMethod ({ cls := "CodeLayoutModel", name := "four", desc := "(I)V" } : Jvm.MethodName)) ∈ lw_all := lw_g (lw_at lw_m11 175 rfl) rfl
theorem q2801 : (Jvm.Cond.code ({ cls := "CodeLayoutModel", name := "four", desc := "(I)V" } : Jvm.MethodName) prog_16_method_3_code (3 : Nat) (Option.none : Option Jvm.ClassFile.FieldType)) ∈ lw_all := lw_g (lw_at lw_m11 176 rfl) rfl
theorem q2802 : (Jvm.Cond.methodLink "CodeLayoutLaw" (22 : Nat) ({ cls := "CodeLayoutModel", name := "end", desc := "(I)Z" } : Jvm.MethodName)) ∈ lw_all := lw_g (lw_at lw_m11 177 rfl) rfl
theorem q2803 : (Jvm.Cond.instanceMethod ({ cls := "CodeLayoutModel", name := "end", desc := "(I)Z" } : Jvm.MethodName)) ∈ lw_all := lw_g (lw_at lw_m11 178 rfl) rfl
theorem q2804 : (Jvm.Cond.selects "CodeLayoutModel" ({ cls := "CodeLayoutModel", name := "end", desc := "(I)Z" } : Jvm.MethodName) ({ cls := "CodeLayoutModel", name := "end", desc := "(I)Z" } : Jvm.MethodName)) ∈ lw_all := lw_g (lw_at lw_m11 179 rfl) rfl
theorem q2805 : (Jvm.Cond.code ({ cls := "CodeLayoutModel", name := "end", desc := "(I)Z" } : Jvm.MethodName) prog_16_method_5_code (2 : Nat) (Option.some Jvm.ClassFile.FieldType.boolean)) ∈ lw_all := lw_g (lw_at lw_m11 180 rfl) rfl
theorem q2806 : (Jvm.Cond.methodLink "CodeLayoutLaw" (27 : Nat) ({ cls := "CodeLayoutModel", name := "read", desc := "()I" } : Jvm.MethodName)) ∈ lw_all := lw_g (lw_at lw_m11 181 rfl) rfl
theorem q2807 : (Jvm.Cond.instanceMethod ({ cls := "CodeLayoutModel", name := "read", desc := "()I" } : Jvm.MethodName)) ∈ lw_all := lw_g (lw_at lw_m11 182 rfl) rfl
theorem q2808 : (Jvm.Cond.selects "CodeLayoutModel" ({ cls := "CodeLayoutModel", name := "read", desc := "()I" } : Jvm.MethodName) ({ cls := "CodeLayoutModel", name := "read", desc := "()I" } : Jvm.MethodName)) ∈ lw_all := lw_g (lw_at lw_m11 183 rfl) rfl
theorem q2809 : (Jvm.Cond.code ({ cls := "CodeLayoutModel", name := "read", desc := "()I" } : Jvm.MethodName) prog_16_method_16_code (7 : Nat) (Option.some Jvm.ClassFile.FieldType.int)) ∈ lw_all := lw_g (lw_at lw_m11 184 rfl) rfl
theorem q2810 : (Jvm.Cond.methodLink "CodeLayoutModel" (257 : Nat) ({ cls := "CodeLayoutModel$Heads", name := "broken", desc := "()I" } : Jvm.MethodName)) ∈ lw_all := lw_g (lw_at lw_m11 185 rfl) rfl
theorem q2811 : (Jvm.Cond.instanceMethod ({ cls := "CodeLayoutModel$Heads", name := "broken", desc := "()I" } : Jvm.MethodName)) ∈ lw_all := lw_g (lw_at lw_m11 186 rfl) rfl
theorem q2812 : (Jvm.Cond.selects "CodeLayoutModel$Heads" ({ cls := "CodeLayoutModel$Heads", name := "broken", desc := "()I" } : Jvm.MethodName) ({ cls := "CodeLayoutModel$Heads", name := "broken", desc := "()I" } : Jvm.MethodName)) ∈ lw_all := lw_g (lw_at lw_m11 187 rfl) rfl
theorem q2813 : (Jvm.Cond.code ({ cls := "CodeLayoutModel$Heads", name := "broken", desc := "()I" } : Jvm.MethodName) prog_17_method_6_code (3 : Nat) (Option.some Jvm.ClassFile.FieldType.int)) ∈ lw_all := lw_g (lw_at lw_m11 188 rfl) rfl
theorem q2814 : (Jvm.Cond.methodLink "CodeLayoutModel$Heads" (56 : Nat) ({ cls := "CodeLayoutModel$Heads", name := "begins", desc := "()Z" } : Jvm.MethodName)) ∈ lw_all := lw_g (lw_at lw_m11 189 rfl) rfl
theorem q2816 : (Jvm.Cond.instanceMethod ({ cls := "CodeLayoutModel$Heads", name := "begins", desc := "()Z" } : Jvm.MethodName)) ∈ lw_all := lw_g (lw_at lw_m11 191 rfl) rfl
theorem q2817 : (Jvm.Cond.code ({ cls := "CodeLayoutModel$Heads", name := "begins", desc := "()Z" } : Jvm.MethodName) prog_17_method_8_code (2 : Nat) (Option.some Jvm.ClassFile.FieldType.boolean)) ∈ lw_all := lw_g (lw_at lw_m11 192 rfl) rfl
theorem q2818 : (Jvm.Cond.methodLink "CodeLayoutModel$Heads" (52 : Nat) ({ cls := "CodeLayoutModel$Heads", name := "is", desc := "(ZJ)Z" } : Jvm.MethodName)) ∈ lw_all := lw_g (lw_at lw_m11 193 rfl) rfl
theorem q2820 : (Jvm.Cond.instanceMethod ({ cls := "CodeLayoutModel$Heads", name := "is", desc := "(ZJ)Z" } : Jvm.MethodName)) ∈ lw_all := lw_g (lw_at lw_m11 195 rfl) rfl
theorem q2821 : (Jvm.Cond.code ({ cls := "CodeLayoutModel$Heads", name := "is", desc := "(ZJ)Z" } : Jvm.MethodName) prog_17_method_4_code (4 : Nat) (Option.some Jvm.ClassFile.FieldType.boolean)) ∈ lw_all := lw_g (lw_at lw_m11 196 rfl) rfl
theorem q2822 : (Jvm.Cond.methodLink "CodeLayoutModel$Heads" (42 : Nat) ({ cls := "CodeLayoutModel$Heads", name := "num", desc := "(JI)J" } : Jvm.MethodName)) ∈ lw_all := lw_g (lw_at lw_m11 197 rfl) rfl
theorem q2823 : (Jvm.Cond.instanceMethod ({ cls := "CodeLayoutModel$Heads", name := "num", desc := "(JI)J" } : Jvm.MethodName)) ∈ lw_all := lw_g (lw_at lw_m11 198 rfl) rfl
theorem q2824 : (Jvm.Cond.selects "CodeLayoutModel$Heads" ({ cls := "CodeLayoutModel$Heads", name := "num", desc := "(JI)J" } : Jvm.MethodName) ({ cls := "CodeLayoutModel$Heads", name := "num", desc := "(JI)J" } : Jvm.MethodName)) ∈ lw_all := lw_g (lw_at lw_m11 199 rfl) rfl
theorem q2825 : (Jvm.Cond.code ({ cls := "CodeLayoutModel$Heads", name := "num", desc := "(JI)J" } : Jvm.MethodName) prog_17_method_2_code (7 : Nat) (Option.some Jvm.ClassFile.FieldType.long)) ∈ lw_all := lw_g (lw_at lw_m11 200 rfl) rfl
theorem q2826 : (Jvm.Cond.constantLong "CodeLayoutModel$Heads" (87 : Nat) (1179403647 : Int64)) ∈ lw_all := lw_g (lw_at lw_m11 201 rfl) rfl
theorem q2827 : (Jvm.Cond.constantLong "CodeLayoutModel$Heads" (89 : Nat) (4 : Int64)) ∈ lw_all := lw_g (lw_at lw_m11 202 rfl) rfl
theorem q2828 : (Jvm.Cond.constantLong "CodeLayoutModel$Heads" (91 : Nat) (65794 : Int64)) ∈ lw_all := lw_g (lw_at lw_m11 203 rfl) rfl
theorem q2829 : (Jvm.Cond.constantLong "CodeLayoutModel$Heads" (93 : Nat) (8 : Int64)) ∈ lw_all := lw_g (lw_at lw_m11 204 rfl) rfl
theorem q2830 : (Jvm.Cond.constantLong "CodeLayoutModel$Heads" (95 : Nat) (16 : Int64)) ∈ lw_all := lw_g (lw_at lw_m11 205 rfl) rfl
theorem q2831 : (Jvm.Cond.constantLong "CodeLayoutModel$Heads" (97 : Nat) (2 : Int64)) ∈ lw_all := lw_g (lw_at lw_m11 206 rfl) rfl
theorem q2832 : (Jvm.Cond.methodLink "CodeLayoutModel$Heads" (99 : Nat) ({ cls := "CodeLayoutModel$Heads", name := "has", desc := "(JIJ)Z" } : Jvm.MethodName)) ∈ lw_all := lw_g (lw_at lw_m11 207 rfl) rfl
theorem q2834 : (Jvm.Cond.instanceMethod ({ cls := "CodeLayoutModel$Heads", name := "has", desc := "(JIJ)Z" } : Jvm.MethodName)) ∈ lw_all := lw_g (lw_at lw_m11 209 rfl) rfl
theorem q2835 : (Jvm.Cond.code ({ cls := "CodeLayoutModel$Heads", name := "has", desc := "(JIJ)Z" } : Jvm.MethodName) prog_17_method_5_code (6 : Nat) (Option.some Jvm.ClassFile.FieldType.boolean)) ∈ lw_all := lw_g (lw_at lw_m11 210 rfl) rfl
theorem q2836 : (Jvm.Cond.constantLong "CodeLayoutModel$Heads" (103 : Nat) (18 : Int64)) ∈ lw_all := lw_g (lw_at lw_m11 211 rfl) rfl
theorem q2837 : (Jvm.Cond.constantLong "CodeLayoutModel$Heads" (105 : Nat) (183 : Int64)) ∈ lw_all := lw_g (lw_at lw_m11 212 rfl) rfl
theorem q2838 : (Jvm.Cond.constantLong "CodeLayoutModel$Heads" (107 : Nat) (20 : Int64)) ∈ lw_all := lw_g (lw_at lw_m11 213 rfl) rfl
theorem q2839 : (Jvm.Cond.constantLong "CodeLayoutModel$Heads" (109 : Nat) (32 : Int64)) ∈ lw_all := lw_g (lw_at lw_m11 214 rfl) rfl
theorem q2840 : (Jvm.Cond.constantLong "CodeLayoutModel$Heads" (111 : Nat) (64 : Int64)) ∈ lw_all := lw_g (lw_at lw_m11 215 rfl) rfl
theorem q2841 : (Jvm.Cond.constantLong "CodeLayoutModel$Heads" (113 : Nat) (48 : Int64)) ∈ lw_all := lw_g (lw_at lw_m11 216 rfl) rfl
theorem q2842 : (Jvm.Cond.constantLong "CodeLayoutModel$Heads" (115 : Nat) (52 : Int64)) ∈ lw_all := lw_g (lw_at lw_m11 217 rfl) rfl
theorem q2843 : (Jvm.Cond.constantLong "CodeLayoutModel$Heads" (117 : Nat) (54 : Int64)) ∈ lw_all := lw_g (lw_at lw_m11 218 rfl) rfl
theorem q2844 : (Jvm.Cond.constantLong "CodeLayoutModel$Heads" (119 : Nat) (56 : Int64)) ∈ lw_all := lw_g (lw_at lw_m11 219 rfl) rfl
theorem q2845 : (Jvm.Cond.constantLong "CodeLayoutModel$Heads" (124 : Nat) (60 : Int64)) ∈ lw_all := lw_g (lw_at lw_m11 220 rfl) rfl
theorem q2846 : (Jvm.Cond.constantLong "CodeLayoutModel$Heads" (129 : Nat) (62 : Int64)) ∈ lw_all := lw_g (lw_at lw_m11 221 rfl) rfl
theorem q2847 : (Jvm.Cond.constantLong "CodeLayoutModel$Heads" (134 : Nat) (58 : Int64)) ∈ lw_all := lw_g (lw_at lw_m11 222 rfl) rfl
theorem q2848 : (Jvm.Cond.constantLong "CodeLayoutModel$Heads" (136 : Nat) (40 : Int64)) ∈ lw_all := lw_g (lw_at lw_m11 223 rfl) rfl
theorem q2849 : (Jvm.Cond.methodLink "CodeLayoutModel$Heads" (138 : Nat) ({ cls := "CodeLayoutModel$Heads", name := "big", desc := "(JI)J" } : Jvm.MethodName)) ∈ lw_all := lw_g (lw_at lw_m11 224 rfl) rfl
theorem q2850 : (Jvm.Cond.instanceMethod ({ cls := "CodeLayoutModel$Heads", name := "big", desc := "(JI)J" } : Jvm.MethodName)) ∈ lw_all := lw_g (lw_at lw_m11 225 rfl) rfl
theorem q2851 : (Jvm.Cond.selects "CodeLayoutModel$Heads" ({ cls := "CodeLayoutModel$Heads", name := "big", desc := "(JI)J" } : Jvm.MethodName) ({ cls := "CodeLayoutModel$Heads", name := "big", desc := "(JI)J" } : Jvm.MethodName)) ∈ lw_all := lw_g (lw_at lw_m11 226 rfl) rfl
theorem q2852 : (Jvm.Cond.code ({ cls := "CodeLayoutModel$Heads", name := "big", desc := "(JI)J" } : Jvm.MethodName) prog_17_method_3_code (6 : Nat) (Option.some Jvm.ClassFile.FieldType.long)) ∈ lw_all := lw_g (lw_at lw_m11 227 rfl) rfl
theorem q2853 : (Jvm.Cond.constantLong "CodeLayoutModel$Heads" (46 : Nat) (1099511627776 : Int64)) ∈ lw_all := lw_g (lw_at lw_m11 228 rfl) rfl
theorem q2854 : (Jvm.Cond.methodLink "CodeLayoutModel$Heads" (60 : Nat) ({ cls := "CodeLayoutModel$Heads", name := "hasSegments", desc := "()Z" } : Jvm.MethodName)) ∈ lw_all := lw_g (lw_at lw_m11 229 rfl) rfl
theorem q2856 : (Jvm.Cond.instanceMethod ({ cls := "CodeLayoutModel$Heads", name := "hasSegments", desc := "()Z" } : Jvm.MethodName)) ∈ lw_all := lw_g (lw_at lw_m11 231 rfl) rfl
theorem q2857 : (Jvm.Cond.code ({ cls := "CodeLayoutModel$Heads", name := "hasSegments", desc := "()Z" } : Jvm.MethodName) prog_17_method_9_code (14 : Nat) (Option.some Jvm.ClassFile.FieldType.boolean)) ∈ lw_all := lw_g (lw_at lw_m11 232 rfl) rfl
theorem q2858 : (Jvm.Cond.constantLong "CodeLayoutModel$Heads" (144 : Nat) (65536 : Int64)) ∈ lw_all := lw_g (lw_at lw_m11 233 rfl) rfl
theorem q2859 : (Jvm.Cond.constantLong "CodeLayoutModel$Heads" (146 : Nat) (134217728 : Int64)) ∈ lw_all := lw_g (lw_at lw_m11 234 rfl) rfl
theorem q2860 : (Jvm.Cond.constantLong "CodeLayoutModel$Heads" (148 : Nat) (15 : Int64)) ∈ lw_all := lw_g (lw_at lw_m11 235 rfl) rfl
theorem q2861 : (Jvm.Cond.constantLong "CodeLayoutModel$Heads" (150 : Nat) (4194304 : Int64)) ∈ lw_all := lw_g (lw_at lw_m11 236 rfl) rfl
theorem q2862 : (Jvm.Cond.methodLink "CodeLayoutModel$Heads" (63 : Nat) ({ cls := "CodeLayoutModel$Heads", name := "hasSections", desc := "()Z" } : Jvm.MethodName)) ∈ lw_all := lw_g (lw_at lw_m11 237 rfl) rfl
theorem q2864 : (Jvm.Cond.instanceMethod ({ cls := "CodeLayoutModel$Heads", name := "hasSections", desc := "()Z" } : Jvm.MethodName)) ∈ lw_all := lw_g (lw_at lw_m11 239 rfl) rfl
theorem q2865 : (Jvm.Cond.code ({ cls := "CodeLayoutModel$Heads", name := "hasSections", desc := "()Z" } : Jvm.MethodName) prog_17_method_12_code (8 : Nat) (Option.some Jvm.ClassFile.FieldType.boolean)) ∈ lw_all := lw_g (lw_at lw_m12 0 rfl) rfl
theorem q2866 : (Jvm.Cond.methodLink "CodeLayoutModel$Heads" (152 : Nat) ({ cls := "CodeLayoutModel$Heads", name := "isSection", desc := "(I)Z" } : Jvm.MethodName)) ∈ lw_all := lw_g (lw_at lw_m12 1 rfl) rfl
theorem q2868 : (Jvm.Cond.instanceMethod ({ cls := "CodeLayoutModel$Heads", name := "isSection", desc := "(I)Z" } : Jvm.MethodName)) ∈ lw_all := lw_g (lw_at lw_m12 3 rfl) rfl
theorem q2869 : (Jvm.Cond.code ({ cls := "CodeLayoutModel$Heads", name := "isSection", desc := "(I)Z" } : Jvm.MethodName) prog_17_method_13_code (7 : Nat) (Option.some Jvm.ClassFile.FieldType.boolean)) ∈ lw_all := lw_g (lw_at lw_m12 4 rfl) rfl
theorem q2870 : (Jvm.Cond.methodLink "CodeLayoutModel$Heads" (163 : Nat) ({ cls := "CodeLayoutModel$Heads", name := "head", desc := "(I)I" } : Jvm.MethodName)) ∈ lw_all := lw_g (lw_at lw_m12 5 rfl) rfl
theorem q2872 : (Jvm.Cond.instanceMethod ({ cls := "CodeLayoutModel$Heads", name := "head", desc := "(I)I" } : Jvm.MethodName)) ∈ lw_all := lw_g (lw_at lw_m12 7 rfl) rfl
theorem q2873 : (Jvm.Cond.code ({ cls := "CodeLayoutModel$Heads", name := "head", desc := "(I)I" } : Jvm.MethodName) prog_17_method_10_code (2 : Nat) (Option.some Jvm.ClassFile.FieldType.int)) ∈ lw_all := lw_g (lw_at lw_m12 8 rfl) rfl
theorem q2874 : (Jvm.Cond.constantLong "CodeLayoutModel$Heads" (172 : Nat) (6 : Int64)) ∈ lw_all := lw_g (lw_at lw_m12 9 rfl) rfl
theorem q2875 : (Jvm.Cond.constantLong "CodeLayoutModel$Heads" (78 : Nat) (3 : Int64)) ∈ lw_all := lw_g (lw_at lw_m12 10 rfl) rfl
theorem q2876 : (Jvm.Cond.constantLong "CodeLayoutModel$Heads" (72 : Nat) (24 : Int64)) ∈ lw_all := lw_g (lw_at lw_m12 11 rfl) rfl
theorem q2877 : (Jvm.Cond.methodLink "CodeLayoutModel$Heads" (156 : Nat) ({ cls := "CodeLayoutModel$Heads", name := "what", desc := "(I)I" } : Jvm.MethodName)) ∈ lw_all := lw_g (lw_at lw_m12 12 rfl) rfl
theorem q2878 : (Jvm.Cond.instanceMethod ({ cls := "CodeLayoutModel$Heads", name := "what", desc := "(I)I" } : Jvm.MethodName)) ∈ lw_all := lw_g (lw_at lw_m12 13 rfl) rfl
theorem q2879 : (Jvm.Cond.selects "CodeLayoutModel$Heads" ({ cls := "CodeLayoutModel$Heads", name := "what", desc := "(I)I" } : Jvm.MethodName) ({ cls := "CodeLayoutModel$Heads", name := "what", desc := "(I)I" } : Jvm.MethodName)) ∈ lw_all := lw_g (lw_at lw_m12 14 rfl) rfl
theorem q2880 : (Jvm.Cond.code ({ cls := "CodeLayoutModel$Heads", name := "what", desc := "(I)I" } : Jvm.MethodName) prog_17_method_11_code (2 : Nat) (Option.some Jvm.ClassFile.FieldType.int)) ∈ lw_all := lw_g (lw_at lw_m12 15 rfl) rfl
theorem q2881 : (Jvm.Cond.methodLink "CodeLayoutModel$Heads" (166 : Nat) ({ cls := "CodeLayoutModel$Heads", name := "isInSegment", desc := "(I)Z" } : Jvm.MethodName)) ∈ lw_all := lw_g (lw_at lw_m12 16 rfl) rfl
theorem q2883 : (Jvm.Cond.instanceMethod ({ cls := "CodeLayoutModel$Heads", name := "isInSegment", desc := "(I)Z" } : Jvm.MethodName)) ∈ lw_all := lw_g (lw_at lw_m12 18 rfl) rfl
theorem q2884 : (Jvm.Cond.code ({ cls := "CodeLayoutModel$Heads", name := "isInSegment", desc := "(I)Z" } : Jvm.MethodName) prog_17_method_14_code (3 : Nat) (Option.some Jvm.ClassFile.FieldType.boolean)) ∈ lw_all := lw_g (lw_at lw_m12 19 rfl) rfl
theorem q2885 : (Jvm.Cond.methodLink "CodeLayoutModel$Heads" (169 : Nat) ({ cls := "CodeLayoutModel$Heads", name := "hasLinks", desc := "()Z" } : Jvm.MethodName)) ∈ lw_all := lw_g (lw_at lw_m12 20 rfl) rfl
theorem q2887 : (Jvm.Cond.instanceMethod ({ cls := "CodeLayoutModel$Heads", name := "hasLinks", desc := "()Z" } : Jvm.MethodName)) ∈ lw_all := lw_g (lw_at lw_m12 22 rfl) rfl
theorem q2888 : (Jvm.Cond.code ({ cls := "CodeLayoutModel$Heads", name := "hasLinks", desc := "()Z" } : Jvm.MethodName) prog_17_method_15_code (6 : Nat) (Option.some Jvm.ClassFile.FieldType.boolean)) ∈ lw_all := lw_g (lw_at lw_m12 23 rfl) rfl
theorem q2889 : (Jvm.Cond.methodLink "CodeLayoutModel$Heads" (66 : Nat) ({ cls := "CodeLayoutModel$Heads", name := "hasSymbols", desc := "()Z" } : Jvm.MethodName)) ∈ lw_all := lw_g (lw_at lw_m12 24 rfl) rfl
theorem q2891 : (Jvm.Cond.instanceMethod ({ cls := "CodeLayoutModel$Heads", name := "hasSymbols", desc := "()Z" } : Jvm.MethodName)) ∈ lw_all := lw_g (lw_at lw_m12 26 rfl) rfl
theorem q2892 : (Jvm.Cond.code ({ cls := "CodeLayoutModel$Heads", name := "hasSymbols", desc := "()Z" } : Jvm.MethodName) prog_17_method_20_code (11 : Nat) (Option.some Jvm.ClassFile.FieldType.boolean)) ∈ lw_all := lw_g (lw_at lw_m12 27 rfl) rfl
theorem q2893 : (Jvm.Cond.methodLink "CodeLayoutModel$Heads" (181 : Nat) ({ cls := "CodeLayoutModel$Heads", name := "symbolCount", desc := "()I" } : Jvm.MethodName)) ∈ lw_all := lw_g (lw_at lw_m12 28 rfl) rfl
theorem q2894 : (Jvm.Cond.instanceMethod ({ cls := "CodeLayoutModel$Heads", name := "symbolCount", desc := "()I" } : Jvm.MethodName)) ∈ lw_all := lw_g (lw_at lw_m12 29 rfl) rfl
theorem q2895 : (Jvm.Cond.selects "CodeLayoutModel$Heads" ({ cls := "CodeLayoutModel$Heads", name := "symbolCount", desc := "()I" } : Jvm.MethodName) ({ cls := "CodeLayoutModel$Heads", name := "symbolCount", desc := "()I" } : Jvm.MethodName)) ∈ lw_all := lw_g (lw_at lw_m12 30 rfl) rfl
theorem q2896 : (Jvm.Cond.code ({ cls := "CodeLayoutModel$Heads", name := "symbolCount", desc := "()I" } : Jvm.MethodName) prog_17_method_16_code (1 : Nat) (Option.some Jvm.ClassFile.FieldType.int)) ∈ lw_all := lw_g (lw_at lw_m12 31 rfl) rfl
theorem q2897 : (Jvm.Cond.methodLink "CodeLayoutModel$Heads" (174 : Nat) ({ cls := "CodeLayoutModel$Heads", name := "symbol", desc := "(I)J" } : Jvm.MethodName)) ∈ lw_all := lw_g (lw_at lw_m12 32 rfl) rfl
theorem q2898 : (Jvm.Cond.instanceMethod ({ cls := "CodeLayoutModel$Heads", name := "symbol", desc := "(I)J" } : Jvm.MethodName)) ∈ lw_all := lw_g (lw_at lw_m12 33 rfl) rfl
theorem q2899 : (Jvm.Cond.selects "CodeLayoutModel$Heads" ({ cls := "CodeLayoutModel$Heads", name := "symbol", desc := "(I)J" } : Jvm.MethodName) ({ cls := "CodeLayoutModel$Heads", name := "symbol", desc := "(I)J" } : Jvm.MethodName)) ∈ lw_all := lw_g (lw_at lw_m12 34 rfl) rfl
theorem q2900 : (Jvm.Cond.code ({ cls := "CodeLayoutModel$Heads", name := "symbol", desc := "(I)J" } : Jvm.MethodName) prog_17_method_17_code (2 : Nat) (Option.some Jvm.ClassFile.FieldType.long)) ∈ lw_all := lw_g (lw_at lw_m12 35 rfl) rfl
theorem q2901 : (Jvm.Cond.constantLong "CodeLayoutModel$Heads" (185 : Nat) (65521 : Int64)) ∈ lw_all := lw_g (lw_at lw_m12 36 rfl) rfl
theorem q2902 : (Jvm.Cond.methodLink "CodeLayoutModel$Heads" (69 : Nat) ({ cls := "CodeLayoutModel$Heads", name := "hasFixes", desc := "()Z" } : Jvm.MethodName)) ∈ lw_all := lw_g (lw_at lw_m12 37 rfl) rfl
theorem q2904 : (Jvm.Cond.instanceMethod ({ cls := "CodeLayoutModel$Heads", name := "hasFixes", desc := "()Z" } : Jvm.MethodName)) ∈ lw_all := lw_g (lw_at lw_m12 39 rfl) rfl
theorem q2905 : (Jvm.Cond.code ({ cls := "CodeLayoutModel$Heads", name := "hasFixes", desc := "()Z" } : Jvm.MethodName) prog_17_method_22_code (4 : Nat) (Option.some Jvm.ClassFile.FieldType.boolean)) ∈ lw_all := lw_g (lw_at lw_m12 40 rfl) rfl
theorem q2906 : (Jvm.Cond.methodLink "CodeLayoutModel$Heads" (187 : Nat) ({ cls := "CodeLayoutModel$Heads", name := "isFix", desc := "(IJ)Z" } : Jvm.MethodName)) ∈ lw_all := lw_g (lw_at lw_m12 41 rfl) rfl
theorem q2908 : (Jvm.Cond.instanceMethod ({ cls := "CodeLayoutModel$Heads", name := "isFix", desc := "(IJ)Z" } : Jvm.MethodName)) ∈ lw_all := lw_g (lw_at lw_m12 43 rfl) rfl
theorem q2909 : (Jvm.Cond.code ({ cls := "CodeLayoutModel$Heads", name := "isFix", desc := "(IJ)Z" } : Jvm.MethodName) prog_17_method_23_code (14 : Nat) (Option.some Jvm.ClassFile.FieldType.boolean)) ∈ lw_all := lw_g (lw_at lw_m12 44 rfl) rfl
theorem q2910 : (Jvm.Cond.methodLink "CodeLayoutModel$Heads" (191 : Nat) ({ cls := "CodeLayoutModel$Heads", name := "aim", desc := "(I)I" } : Jvm.MethodName)) ∈ lw_all := lw_g (lw_at lw_m12 45 rfl) rfl
theorem q2911 : (Jvm.Cond.instanceMethod ({ cls := "CodeLayoutModel$Heads", name := "aim", desc := "(I)I" } : Jvm.MethodName)) ∈ lw_all := lw_g (lw_at lw_m12 46 rfl) rfl
theorem q2912 : (Jvm.Cond.selects "CodeLayoutModel$Heads" ({ cls := "CodeLayoutModel$Heads", name := "aim", desc := "(I)I" } : Jvm.MethodName) ({ cls := "CodeLayoutModel$Heads", name := "aim", desc := "(I)I" } : Jvm.MethodName)) ∈ lw_all := lw_g (lw_at lw_m12 47 rfl) rfl
theorem q2913 : (Jvm.Cond.code ({ cls := "CodeLayoutModel$Heads", name := "aim", desc := "(I)I" } : Jvm.MethodName) prog_17_method_21_code (2 : Nat) (Option.some Jvm.ClassFile.FieldType.int)) ∈ lw_all := lw_g (lw_at lw_m12 48 rfl) rfl
theorem q2914 : (Jvm.Cond.constantLong "CodeLayoutModel$Heads" (194 : Nat) (275 : Int64)) ∈ lw_all := lw_g (lw_at lw_m12 49 rfl) rfl
theorem q2915 : (Jvm.Cond.constantLong "CodeLayoutModel$Heads" (196 : Nat) (277 : Int64)) ∈ lw_all := lw_g (lw_at lw_m12 50 rfl) rfl
theorem q2916 : (Jvm.Cond.constantLong "CodeLayoutModel$Heads" (198 : Nat) (278 : Int64)) ∈ lw_all := lw_g (lw_at lw_m12 51 rfl) rfl
theorem q2917 : (Jvm.Cond.constantLong "CodeLayoutModel$Heads" (200 : Nat) (285 : Int64)) ∈ lw_all := lw_g (lw_at lw_m12 52 rfl) rfl
theorem q2918 : (Jvm.Cond.constantLong "CodeLayoutModel$Heads" (202 : Nat) (286 : Int64)) ∈ lw_all := lw_g (lw_at lw_m12 53 rfl) rfl
theorem q2919 : (Jvm.Cond.constantLong "CodeLayoutModel$Heads" (204 : Nat) (282 : Int64)) ∈ lw_all := lw_g (lw_at lw_m12 54 rfl) rfl
theorem q2920 : (Jvm.Cond.constantLong "CodeLayoutModel$Heads" (206 : Nat) (283 : Int64)) ∈ lw_all := lw_g (lw_at lw_m12 55 rfl) rfl
theorem q2921 : (Jvm.Cond.constantLong "CodeLayoutModel$Heads" (208 : Nat) (257 : Int64)) ∈ lw_all := lw_g (lw_at lw_m12 56 rfl) rfl
theorem q2922 : (Jvm.Cond.constantLong "CodeLayoutModel$Heads" (210 : Nat) (12 : Int64)) ∈ lw_all := lw_g (lw_at lw_m12 57 rfl) rfl
theorem q2923 : (Jvm.Cond.methodLink "CodeLayoutModel$Heads" (74 : Nat) ({ cls := "CodeLayoutModel$Heads", name := "isIn", desc := "(J)Z" } : Jvm.MethodName)) ∈ lw_all := lw_g (lw_at lw_m12 58 rfl) rfl
theorem q2924 : (Jvm.Cond.instanceMethod ({ cls := "CodeLayoutModel$Heads", name := "isIn", desc := "(J)Z" } : Jvm.MethodName)) ∈ lw_all := lw_g (lw_at lw_m12 59 rfl) rfl
theorem q2925 : (Jvm.Cond.selects "CodeLayoutModel$Heads" ({ cls := "CodeLayoutModel$Heads", name := "isIn", desc := "(J)Z" } : Jvm.MethodName) ({ cls := "CodeLayoutModel$Heads", name := "isIn", desc := "(J)Z" } : Jvm.MethodName)) ∈ lw_all := lw_g (lw_at lw_m12 60 rfl) rfl
theorem q2926 : (Jvm.Cond.code ({ cls := "CodeLayoutModel$Heads", name := "isIn", desc := "(J)Z" } : Jvm.MethodName) prog_17_method_7_code (3 : Nat) (Option.some Jvm.ClassFile.FieldType.boolean)) ∈ lw_all := lw_g (lw_at lw_m12 61 rfl) rfl
theorem q2927 : (Jvm.Cond.methodLink "CodeLayoutModel" (262 : Nat) ({ cls := "CodeLayoutModel", name := "apart", desc := "()I" } : Jvm.MethodName)) ∈ lw_all := lw_g (lw_at lw_m12 62 rfl) rfl
theorem q2929 : (Jvm.Cond.instanceMethod ({ cls := "CodeLayoutModel", name := "apart", desc := "()I" } : Jvm.MethodName)) ∈ lw_all := lw_g (lw_at lw_m12 64 rfl) rfl
theorem q2930 : (Jvm.Cond.code ({ cls := "CodeLayoutModel", name := "apart", desc := "()I" } : Jvm.MethodName) prog_16_method_20_code (5 : Nat) (Option.some Jvm.ClassFile.FieldType.int)) ∈ lw_all := lw_g (lw_at lw_m12 65 rfl) rfl
theorem q2931 : (Jvm.Cond.constantLong "CodeLayoutModel" (247 : Nat) (4 : Int64)) ∈ lw_all := lw_g (lw_at lw_m12 66 rfl) rfl
theorem q2932 : (Jvm.Cond.methodLink "CodeLayoutModel" (286 : Nat) ({ cls := "CodeLayoutModel$Heads", name := "num", desc := "(JI)J" } : Jvm.MethodName)) ∈ lw_all := lw_g (lw_at lw_m12 67 rfl) rfl
theorem q2933 : (Jvm.Cond.methodLink "CodeLayoutModel" (319 : Nat) ({ cls := "CodeLayoutModel", name := "hasFunctions", desc := "()Z" } : Jvm.MethodName)) ∈ lw_all := lw_g (lw_at lw_m12 68 rfl) rfl
theorem q2935 : (Jvm.Cond.instanceMethod ({ cls := "CodeLayoutModel", name := "hasFunctions", desc := "()Z" } : Jvm.MethodName)) ∈ lw_all := lw_g (lw_at lw_m12 70 rfl) rfl
theorem q2936 : (Jvm.Cond.code ({ cls := "CodeLayoutModel", name := "hasFunctions", desc := "()Z" } : Jvm.MethodName) prog_16_method_22_code (8 : Nat) (Option.some Jvm.ClassFile.FieldType.boolean)) ∈ lw_all := lw_g (lw_at lw_m12 71 rfl) rfl
theorem q2937 : (Jvm.Cond.methodLink "CodeLayoutModel" (356 : Nat) ({ cls := "CodeLayoutModel$Heads", name := "symbolCount", desc := "()I" } : Jvm.MethodName)) ∈ lw_all := lw_g (lw_at lw_m12 72 rfl) rfl
theorem q2938 : (Jvm.Cond.methodLink "CodeLayoutModel" (359 : Nat) ({ cls := "CodeLayoutModel$Heads", name := "isFunction", desc := "(I)Z" } : Jvm.MethodName)) ∈ lw_all := lw_g (lw_at lw_m12 73 rfl) rfl
theorem q2939 : (Jvm.Cond.instanceMethod ({ cls := "CodeLayoutModel$Heads", name := "isFunction", desc := "(I)Z" } : Jvm.MethodName)) ∈ lw_all := lw_g (lw_at lw_m12 74 rfl) rfl
theorem q2940 : (Jvm.Cond.selects "CodeLayoutModel$Heads" ({ cls := "CodeLayoutModel$Heads", name := "isFunction", desc := "(I)Z" } : Jvm.MethodName) ({ cls := "CodeLayoutModel$Heads", name := "isFunction", desc := "(I)Z" } : Jvm.MethodName)) ∈ lw_all := lw_g (lw_at lw_m12 75 rfl) rfl
theorem q2941 : (Jvm.Cond.code ({ cls := "CodeLayoutModel$Heads", name := "isFunction", desc := "(I)Z" } : Jvm.MethodName) prog_17_method_19_code (2 : Nat) (Option.some Jvm.ClassFile.FieldType.boolean)) ∈ lw_all := lw_g (lw_at lw_m12 76 rfl) rfl
theorem q2942 : (Jvm.Cond.methodLink "CodeLayoutModel$Heads" (178 : Nat) ({ cls := "CodeLayoutModel$Heads", name := "isOfText", desc := "(I)Z" } : Jvm.MethodName)) ∈ lw_all := lw_g (lw_at lw_m12 77 rfl) rfl
theorem q2943 : (Jvm.Cond.instanceMethod ({ cls := "CodeLayoutModel$Heads", name := "isOfText", desc := "(I)Z" } : Jvm.MethodName)) ∈ lw_all := lw_g (lw_at lw_m12 78 rfl) rfl
theorem q2944 : (Jvm.Cond.selects "CodeLayoutModel$Heads" ({ cls := "CodeLayoutModel$Heads", name := "isOfText", desc := "(I)Z" } : Jvm.MethodName) ({ cls := "CodeLayoutModel$Heads", name := "isOfText", desc := "(I)Z" } : Jvm.MethodName)) ∈ lw_all := lw_g (lw_at lw_m12 79 rfl) rfl
theorem q2945 : (Jvm.Cond.code ({ cls := "CodeLayoutModel$Heads", name := "isOfText", desc := "(I)Z" } : Jvm.MethodName) prog_17_method_18_code (2 : Nat) (Option.some Jvm.ClassFile.FieldType.boolean)) ∈ lw_all := lw_g (lw_at lw_m12 80 rfl) rfl
theorem q2946 : (Jvm.Cond.methodLink "CodeLayoutModel" (290 : Nat) ({ cls := "CodeLayoutModel$Heads", name := "symbol", desc := "(I)J" } : Jvm.MethodName)) ∈ lw_all := lw_g (lw_at lw_m12 81 rfl) rfl
theorem q2947 : (Jvm.Cond.constantLong "CodeLayoutModel" (296 : Nat) (16 : Int64)) ∈ lw_all := lw_g (lw_at lw_m12 82 rfl) rfl
theorem q2948 : (Jvm.Cond.constantLong "CodeLayoutModel" (294 : Nat) (8 : Int64)) ∈ lw_all := lw_g (lw_at lw_m12 83 rfl) rfl
theorem q2949 : (Jvm.Cond.methodLink "CodeLayoutModel" (323 : Nat) ({ cls := "CodeLayoutModel", name := "broken", desc := "(IJ)I" } : Jvm.MethodName)) ∈ lw_all := lw_g (lw_at lw_m12 84 rfl) rfl
theorem q2951 : (Jvm.Cond.instanceMethod ({ cls := "CodeLayoutModel", name := "broken", desc := "(IJ)I" } : Jvm.MethodName)) ∈ lw_all := lw_g (lw_at lw_m12 86 rfl) rfl
theorem q2952 : (Jvm.Cond.code ({ cls := "CodeLayoutModel", name := "broken", desc := "(IJ)I" } : Jvm.MethodName) prog_16_method_21_code (4 : Nat) (Option.some Jvm.ClassFile.FieldType.int)) ∈ lw_all := lw_g (lw_at lw_m12 87 rfl) rfl
theorem q2953 : (Jvm.Cond.methodLink "CodeLayoutModel" (326 : Nat) ({ cls := "CodeLayoutModel", name := "sort", desc := "(I)I" } : Jvm.MethodName)) ∈ lw_all := lw_g (lw_at lw_m12 88 rfl) rfl
theorem q2954 : (Jvm.Cond.static ({ cls := "CodeLayoutModel", name := "sort", desc := "(I)I" } : Jvm.MethodName)) ∈ lw_all := lw_g (lw_at lw_m12 89 rfl) rfl
theorem q2955 : (Jvm.Cond.code ({ cls := "CodeLayoutModel", name := "sort", desc := "(I)I" } : Jvm.MethodName) prog_16_method_9_code (2 : Nat) (Option.some Jvm.ClassFile.FieldType.int)) ∈ lw_all := lw_g (lw_at lw_m12 90 rfl) rfl
theorem q2956 : (Jvm.Cond.constant "CodeLayoutModel" (190 : Nat) (528482304 : Int32)) ∈ lw_all := lw_g (lw_at lw_m12 91 rfl) rfl
theorem q2957 : (Jvm.Cond.constant "CodeLayoutModel" (191 : Nat) (285212672 : Int32)) ∈ lw_all := lw_g (lw_at lw_m12 92 rfl) rfl
theorem q2958 : (Jvm.Cond.methodLink "CodeLayoutModel" (192 : Nat) ({ cls := "CodeLayoutModel", name := "fits", desc := "(III)Z" } : Jvm.MethodName)) ∈ lw_all := lw_g (lw_at lw_m12 93 rfl) rfl
theorem q2959 : (Jvm.Cond.static ({ cls := "CodeLayoutModel", name := "fits", desc := "(III)Z" } : Jvm.MethodName)) ∈ lw_all := lw_g (lw_at lw_m12 94 rfl) rfl
theorem q2960 : (Jvm.Cond.code ({ cls := "CodeLayoutModel", name := "fits", desc := "(III)Z" } : Jvm.MethodName) prog_16_method_6_code (3 : Nat) (Option.some Jvm.ClassFile.FieldType.boolean)) ∈ lw_all := lw_g (lw_at lw_m12 95 rfl) rfl
theorem q2961 : (Jvm.Cond.constant "CodeLayoutModel" (196 : Nat) (522190848 : Int32)) ∈ lw_all := lw_g (lw_at lw_m12 96 rfl) rfl
theorem q2962 : (Jvm.Cond.constant "CodeLayoutModel" (197 : Nat) (184549376 : Int32)) ∈ lw_all := lw_g (lw_at lw_m12 97 rfl) rfl
theorem q2963 : (Jvm.Cond.methodLink "CodeLayoutModel" (198 : Nat) ({ cls := "CodeLayoutModel", name := "bits", desc := "(III)I" } : Jvm.MethodName)) ∈ lw_all := lw_g (lw_at lw_m12 98 rfl) rfl
theorem q2964 : (Jvm.Cond.static ({ cls := "CodeLayoutModel", name := "bits", desc := "(III)I" } : Jvm.MethodName)) ∈ lw_all := lw_g (lw_at lw_m12 99 rfl) rfl
theorem q2965 : (Jvm.Cond.code ({ cls := "CodeLayoutModel", name := "bits", desc := "(III)I" } : Jvm.MethodName) prog_16_method_7_code (3 : Nat) (Option.some Jvm.ClassFile.FieldType.int)) ∈ lw_all := lw_g (lw_at lw_m12 100 rfl) rfl
theorem q2966 : (Jvm.Cond.methodLink "CodeLayoutModel" (202 : Nat) ({ cls := "CodeLayoutModel", name := "isMoved", desc := "(I)Z" } : Jvm.MethodName)) ∈ lw_all := lw_g (lw_at lw_m12 101 rfl) rfl
theorem q2967 : (Jvm.Cond.static ({ cls := "CodeLayoutModel", name := "isMoved", desc := "(I)Z" } : Jvm.MethodName)) ∈ lw_all := lw_g (lw_at lw_m12 102 rfl) rfl
theorem q2968 : (Jvm.Cond.code ({ cls := "CodeLayoutModel", name := "isMoved", desc := "(I)Z" } : Jvm.MethodName) prog_16_method_10_code (1 : Nat) (Option.some Jvm.ClassFile.FieldType.boolean)) ∈ lw_all := lw_g (lw_at lw_m12 103 rfl) rfl
theorem q2969 : (Jvm.Cond.constant "CodeLayoutModel" (206 : Nat) (520093696 : Int32)) ∈ lw_all := lw_g (lw_at lw_m12 104 rfl) rfl
theorem q2970 : (Jvm.Cond.constant "CodeLayoutModel" (207 : Nat) (167772160 : Int32)) ∈ lw_all := lw_g (lw_at lw_m12 105 rfl) rfl
theorem q2971 : (Jvm.Cond.constant "CodeLayoutModel" (208 : Nat) (310378496 : Int32)) ∈ lw_all := lw_g (lw_at lw_m12 106 rfl) rfl
theorem q2972 : (Jvm.Cond.constant "CodeLayoutModel" (209 : Nat) (-1627389952 : Int32)) ∈ lw_all := lw_g (lw_at lw_m12 107 rfl) rfl
theorem q2973 : (Jvm.Cond.constant "CodeLayoutModel" (210 : Nat) (-1879048192 : Int32)) ∈ lw_all := lw_g (lw_at lw_m12 108 rfl) rfl
theorem q2974 : (Jvm.Cond.constant "CodeLayoutModel" (211 : Nat) (2145386496 : Int32)) ∈ lw_all := lw_g (lw_at lw_m12 109 rfl) rfl
theorem q2975 : (Jvm.Cond.constant "CodeLayoutModel" (212 : Nat) (452984832 : Int32)) ∈ lw_all := lw_g (lw_at lw_m12 110 rfl) rfl
theorem q2976 : (Jvm.Cond.constant "CodeLayoutModel" (213 : Nat) (448790528 : Int32)) ∈ lw_all := lw_g (lw_at lw_m12 111 rfl) rfl
theorem q2977 : (Jvm.Cond.constant "CodeLayoutModel" (214 : Nat) (2145388544 : Int32)) ∈ lw_all := lw_g (lw_at lw_m12 112 rfl) rfl
theorem q2978 : (Jvm.Cond.constant "CodeLayoutModel" (215 : Nat) (444596224 : Int32)) ∈ lw_all := lw_g (lw_at lw_m12 113 rfl) rfl
theorem q2979 : (Jvm.Cond.constant "CodeLayoutModel" (216 : Nat) (1056964608 : Int32)) ∈ lw_all := lw_g (lw_at lw_m12 114 rfl) rfl
theorem q2980 : (Jvm.Cond.constant "CodeLayoutModel" (217 : Nat) (956301312 : Int32)) ∈ lw_all := lw_g (lw_at lw_m12 115 rfl) rfl
theorem q2981 : (Jvm.Cond.methodLink "CodeLayoutModel" (218 : Nat) ({ cls := "CodeLayoutModel", name := "isLoad", desc := "(I)Z" } : Jvm.MethodName)) ∈ lw_all := lw_g (lw_at lw_m12 116 rfl) rfl
theorem q2982 : (Jvm.Cond.static ({ cls := "CodeLayoutModel", name := "isLoad", desc := "(I)Z" } : Jvm.MethodName)) ∈ lw_all := lw_g (lw_at lw_m12 117 rfl) rfl
theorem q2983 : (Jvm.Cond.code ({ cls := "CodeLayoutModel", name := "isLoad", desc := "(I)Z" } : Jvm.MethodName) prog_16_method_11_code (3 : Nat) (Option.some Jvm.ClassFile.FieldType.boolean)) ∈ lw_all := lw_g (lw_at lw_m12 118 rfl) rfl
theorem q2984 : (Jvm.Cond.constant "CodeLayoutModel" (221 : Nat) (1059122176 : Int32)) ∈ lw_all := lw_g (lw_at lw_m12 119 rfl) rfl
theorem q2985 : (Jvm.Cond.constant "CodeLayoutModel" (222 : Nat) (941647872 : Int32)) ∈ lw_all := lw_g (lw_at lw_m12 120 rfl) rfl
theorem q2986 : (Jvm.Cond.constant "CodeLayoutModel" (223 : Nat) (-33554432 : Int32)) ∈ lw_all := lw_g (lw_at lw_m12 121 rfl) rfl
theorem q2987 : (Jvm.Cond.constant "CodeLayoutModel" (224 : Nat) (-1476395008 : Int32)) ∈ lw_all := lw_g (lw_at lw_m12 122 rfl) rfl
theorem q2988 : (Jvm.Cond.methodLink "CodeLayoutModel" (225 : Nat) ({ cls := "CodeLayoutModel", name := "isPair", desc := "(I)Z" } : Jvm.MethodName)) ∈ lw_all := lw_g (lw_at lw_m12 123 rfl) rfl
theorem q2989 : (Jvm.Cond.static ({ cls := "CodeLayoutModel", name := "isPair", desc := "(I)Z" } : Jvm.MethodName)) ∈ lw_all := lw_g (lw_at lw_m12 124 rfl) rfl
theorem q2990 : (Jvm.Cond.code ({ cls := "CodeLayoutModel", name := "isPair", desc := "(I)Z" } : Jvm.MethodName) prog_16_method_12_code (5 : Nat) (Option.some Jvm.ClassFile.FieldType.boolean)) ∈ lw_all := lw_g (lw_at lw_m12 125 rfl) rfl
theorem q2991 : (Jvm.Cond.constant "CodeLayoutModel" (228 : Nat) (-67108864 : Int32)) ∈ lw_all := lw_g (lw_at lw_m12 126 rfl) rfl
theorem q2992 : (Jvm.Cond.constant "CodeLayoutModel" (229 : Nat) (335544320 : Int32)) ∈ lw_all := lw_g (lw_at lw_m12 127 rfl) rfl
theorem q2993 : (Jvm.Cond.constant "CodeLayoutModel" (230 : Nat) (-1811939328 : Int32)) ∈ lw_all := lw_g (lw_at lw_m12 128 rfl) rfl
theorem q2994 : (Jvm.Cond.constant "CodeLayoutModel" (231 : Nat) (-16777200 : Int32)) ∈ lw_all := lw_g (lw_at lw_m12 129 rfl) rfl
theorem q2995 : (Jvm.Cond.constant "CodeLayoutModel" (232 : Nat) (1409286144 : Int32)) ∈ lw_all := lw_g (lw_at lw_m12 130 rfl) rfl
theorem q2996 : (Jvm.Cond.constant "CodeLayoutModel" (233 : Nat) (2113929216 : Int32)) ∈ lw_all := lw_g (lw_at lw_m12 131 rfl) rfl
theorem q2997 : (Jvm.Cond.constant "CodeLayoutModel" (234 : Nat) (872415232 : Int32)) ∈ lw_all := lw_g (lw_at lw_m12 132 rfl) rfl
theorem q2998 : (Jvm.Cond.constant "CodeLayoutModel" (235 : Nat) (905969664 : Int32)) ∈ lw_all := lw_g (lw_at lw_m12 133 rfl) rfl
theorem q2999 : (Jvm.Cond.constant "CodeLayoutModel" (236 : Nat) (-702611456 : Int32)) ∈ lw_all := lw_g (lw_at lw_m12 134 rfl) rfl
theorem q3000 : (Jvm.Cond.constant "CodeLayoutModel" (237 : Nat) (-700514304 : Int32)) ∈ lw_all := lw_g (lw_at lw_m12 135 rfl) rfl
theorem q3001 : (Jvm.Cond.constant "CodeLayoutModel" (238 : Nat) (-698417152 : Int32)) ∈ lw_all := lw_g (lw_at lw_m12 136 rfl) rfl
theorem q3002 : (Jvm.Cond.constant "CodeLayoutModel" (239 : Nat) (-2097121 : Int32)) ∈ lw_all := lw_g (lw_at lw_m12 137 rfl) rfl
theorem q3003 : (Jvm.Cond.constant "CodeLayoutModel" (240 : Nat) (-738197503 : Int32)) ∈ lw_all := lw_g (lw_at lw_m12 138 rfl) rfl
theorem q3004 : (Jvm.Cond.constant "CodeLayoutModel" (241 : Nat) (-721215457 : Int32)) ∈ lw_all := lw_g (lw_at lw_m12 139 rfl) rfl
theorem q3005 : (Jvm.Cond.methodLink "CodeLayoutModel" (336 : Nat) ({ cls := "CodeLayoutModel$Heads", name := "what", desc := "(I)I" } : Jvm.MethodName)) ∈ lw_all := lw_g (lw_at lw_m12 140 rfl) rfl
theorem q3006 : (Jvm.Cond.methodLink "CodeLayoutModel" (339 : Nat) ({ cls := "CodeLayoutModel", name := "isRight", desc := "(IJ)Z" } : Jvm.MethodName)) ∈ lw_all := lw_g (lw_at lw_m12 141 rfl) rfl
theorem q3008 : (Jvm.Cond.instanceMethod ({ cls := "CodeLayoutModel", name := "isRight", desc := "(IJ)Z" } : Jvm.MethodName)) ∈ lw_all := lw_g (lw_at lw_m12 143 rfl) rfl
theorem q3009 : (Jvm.Cond.code ({ cls := "CodeLayoutModel", name := "isRight", desc := "(IJ)Z" } : Jvm.MethodName) prog_16_method_23_code (14 : Nat) (Option.some Jvm.ClassFile.FieldType.boolean)) ∈ lw_all := lw_g (lw_at lw_m12 144 rfl) rfl
theorem q3010 : (Jvm.Cond.methodLink "CodeLayoutModel" (345 : Nat) ({ cls := "CodeLayoutModel", name := "fixType", desc := "(J)I" } : Jvm.MethodName)) ∈ lw_all := lw_g (lw_at lw_m12 145 rfl) rfl
theorem q3012 : (Jvm.Cond.instanceMethod ({ cls := "CodeLayoutModel", name := "fixType", desc := "(J)I" } : Jvm.MethodName)) ∈ lw_all := lw_g (lw_at lw_m12 147 rfl) rfl
theorem q3013 : (Jvm.Cond.code ({ cls := "CodeLayoutModel", name := "fixType", desc := "(J)I" } : Jvm.MethodName) prog_16_method_19_code (3 : Nat) (Option.some Jvm.ClassFile.FieldType.int)) ∈ lw_all := lw_g (lw_at lw_m12 148 rfl) rfl
theorem q3014 : (Jvm.Cond.methodLink "CodeLayoutModel" (362 : Nat) ({ cls := "CodeLayoutModel", name := "target", desc := "(J)J" } : Jvm.MethodName)) ∈ lw_all := lw_g (lw_at lw_m12 149 rfl) rfl
theorem q3016 : (Jvm.Cond.instanceMethod ({ cls := "CodeLayoutModel", name := "target", desc := "(J)J" } : Jvm.MethodName)) ∈ lw_all := lw_g (lw_at lw_m12 151 rfl) rfl
theorem q3017 : (Jvm.Cond.code ({ cls := "CodeLayoutModel", name := "target", desc := "(J)J" } : Jvm.MethodName) prog_16_method_18_code (3 : Nat) (Option.some Jvm.ClassFile.FieldType.long)) ∈ lw_all := lw_g (lw_at lw_m12 152 rfl) rfl
theorem q3018 : (Jvm.Cond.constantLong "CodeLayoutModel" (284 : Nat) (12 : Int64)) ∈ lw_all := lw_g (lw_at lw_m12 153 rfl) rfl
theorem q3019 : (Jvm.Cond.methodLink "CodeLayoutModel" (366 : Nat) ({ cls := "CodeLayoutModel$Heads", name := "isIn", desc := "(J)Z" } : Jvm.MethodName)) ∈ lw_all := lw_g (lw_at lw_m12 154 rfl) rfl
theorem q3020 : (Jvm.Cond.methodLink "CodeLayoutModel" (370 : Nat) ({ cls := "CodeLayoutModel$Heads", name := "aim", desc := "(I)I" } : Jvm.MethodName)) ∈ lw_all := lw_g (lw_at lw_m12 155 rfl) rfl
theorem q3021 : (Jvm.Cond.constantLong "CodeLayoutModel" (373 : Nat) (2147483648 : Int64)) ∈ lw_all := lw_g (lw_at lw_m12 156 rfl) rfl
theorem q3022 : (Jvm.Cond.methodLink "CodeLayoutModel" (375 : Nat) ({ cls := "CodeLayoutModel", name := "page", desc := "(IJ)J" } : Jvm.MethodName)) ∈ lw_all := lw_g (lw_at lw_m12 157 rfl) rfl
theorem q3023 : (Jvm.Cond.static ({ cls := "CodeLayoutModel", name := "page", desc := "(IJ)J" } : Jvm.MethodName)) ∈ lw_all := lw_g (lw_at lw_m12 158 rfl) rfl
theorem q3024 : (Jvm.Cond.code ({ cls := "CodeLayoutModel", name := "page", desc := "(IJ)J" } : Jvm.MethodName) prog_16_method_15_code (3 : Nat) (Option.some Jvm.ClassFile.FieldType.long)) ∈ lw_all := lw_g (lw_at lw_m12 159 rfl) rfl
theorem q3025 : (Jvm.Cond.constantLong "CodeLayoutModel" (245 : Nat) (-4096 : Int64)) ∈ lw_all := lw_g (lw_at lw_m12 160 rfl) rfl
theorem q3026 : (Jvm.Cond.methodLink "CodeLayoutModel" (242 : Nat) ({ cls := "CodeLayoutModel", name := "signed", desc := "(III)I" } : Jvm.MethodName)) ∈ lw_all := lw_g (lw_at lw_m12 161 rfl) rfl
theorem q3027 : (Jvm.Cond.static ({ cls := "CodeLayoutModel", name := "signed", desc := "(III)I" } : Jvm.MethodName)) ∈ lw_all := lw_g (lw_at lw_m12 162 rfl) rfl
theorem q3028 : (Jvm.Cond.code ({ cls := "CodeLayoutModel", name := "signed", desc := "(III)I" } : Jvm.MethodName) prog_16_method_8_code (3 : Nat) (Option.some Jvm.ClassFile.FieldType.int)) ∈ lw_all := lw_g (lw_at lw_m12 163 rfl) rfl
theorem q3029 : (Jvm.Cond.constantLong "CodeLayoutModel" (249 : Nat) (4096 : Int64)) ∈ lw_all := lw_g (lw_at lw_m12 164 rfl) rfl
theorem q3030 : (Jvm.Cond.constantLong "CodeLayoutModel" (379 : Nat) (4095 : Int64)) ∈ lw_all := lw_g (lw_at lw_m12 165 rfl) rfl
theorem q3031 : (Jvm.Cond.methodLink "CodeLayoutModel" (381 : Nat) ({ cls := "CodeLayoutModel", name := "far", desc := "(II)I" } : Jvm.MethodName)) ∈ lw_all := lw_g (lw_at lw_m12 166 rfl) rfl
theorem q3032 : (Jvm.Cond.static ({ cls := "CodeLayoutModel", name := "far", desc := "(II)I" } : Jvm.MethodName)) ∈ lw_all := lw_g (lw_at lw_m12 167 rfl) rfl
theorem q3033 : (Jvm.Cond.code ({ cls := "CodeLayoutModel", name := "far", desc := "(II)I" } : Jvm.MethodName) prog_16_method_13_code (2 : Nat) (Option.some Jvm.ClassFile.FieldType.int)) ∈ lw_all := lw_g (lw_at lw_m12 168 rfl) rfl
theorem q3034 : (Jvm.Cond.constantLong "CodeLayoutModel" (385 : Nat) (3 : Int64)) ∈ lw_all := lw_g (lw_at lw_m12 169 rfl) rfl
theorem q3035 : (Jvm.Cond.constantLong "CodeLayoutModel" (343 : Nat) (24 : Int64)) ∈ lw_all := lw_g (lw_at lw_m12 170 rfl) rfl
theorem q3036 : (Jvm.Cond.methodLink "CodeLayoutModel" (349 : Nat) ({ cls := "CodeLayoutModel", name := "goesRight", desc := "(II)Z" } : Jvm.MethodName)) ∈ lw_all := lw_g (lw_at lw_m12 171 rfl) rfl
theorem q3038 : (Jvm.Cond.instanceMethod ({ cls := "CodeLayoutModel", name := "goesRight", desc := "(II)Z" } : Jvm.MethodName)) ∈ lw_all := lw_g (lw_at lw_m12 173 rfl) rfl
theorem q3039 : (Jvm.Cond.code ({ cls := "CodeLayoutModel", name := "goesRight", desc := "(II)Z" } : Jvm.MethodName) prog_16_method_26_code (6 : Nat) (Option.some Jvm.ClassFile.FieldType.boolean)) ∈ lw_all := lw_g (lw_at lw_m12 174 rfl) rfl
theorem q3040 : (Jvm.Cond.methodLink "CodeLayoutModel" (390 : Nat) ({ cls := "CodeLayoutModel", name := "isIf", desc := "(I)Z" } : Jvm.MethodName)) ∈ lw_all := lw_g (lw_at lw_m12 175 rfl) rfl
theorem q3041 : (Jvm.Cond.static ({ cls := "CodeLayoutModel", name := "isIf", desc := "(I)Z" } : Jvm.MethodName)) ∈ lw_all := lw_g (lw_at lw_m12 176 rfl) rfl
theorem q3042 : (Jvm.Cond.code ({ cls := "CodeLayoutModel", name := "isIf", desc := "(I)Z" } : Jvm.MethodName) prog_16_method_14_code (1 : Nat) (Option.some Jvm.ClassFile.FieldType.boolean)) ∈ lw_all := lw_g (lw_at lw_m12 177 rfl) rfl
theorem q3043 : (Jvm.Cond.methodLink "CodeLayoutModel" (393 : Nat) ({ cls := "CodeLayoutModel", name := "isFirst", desc := "(I)Z" } : Jvm.MethodName)) ∈ lw_all := lw_g (lw_at lw_m12 178 rfl) rfl
theorem q3045 : (Jvm.Cond.instanceMethod ({ cls := "CodeLayoutModel", name := "isFirst", desc := "(I)Z" } : Jvm.MethodName)) ∈ lw_all := lw_g (lw_at lw_m12 180 rfl) rfl
theorem q3046 : (Jvm.Cond.code ({ cls := "CodeLayoutModel", name := "isFirst", desc := "(I)Z" } : Jvm.MethodName) prog_16_method_25_code (2 : Nat) (Option.some Jvm.ClassFile.FieldType.boolean)) ∈ lw_all := lw_g (lw_at lw_m12 181 rfl) rfl
theorem q3047 : (Jvm.Cond.methodLink "CodeLayoutModel" (387 : Nat) ({ cls := "CodeLayoutModel", name := "functionAt", desc := "(I)I" } : Jvm.MethodName)) ∈ lw_all := lw_g (lw_at lw_m12 182 rfl) rfl
theorem q3049 : (Jvm.Cond.instanceMethod ({ cls := "CodeLayoutModel", name := "functionAt", desc := "(I)I" } : Jvm.MethodName)) ∈ lw_all := lw_g (lw_at lw_m12 184 rfl) rfl
theorem q3050 : (Jvm.Cond.code ({ cls := "CodeLayoutModel", name := "functionAt", desc := "(I)I" } : Jvm.MethodName) prog_16_method_24_code (3 : Nat) (Option.some Jvm.ClassFile.FieldType.int)) ∈ lw_all := lw_g (lw_at lw_m12 185 rfl) rfl
theorem q3051 : (Jvm.Cond.methodLink "CodeLayoutModel" (353 : Nat) ({ cls := "CodeLayoutModel", name := "cut", desc := "()V" } : Jvm.MethodName)) ∈ lw_all := lw_g (lw_at lw_m12 186 rfl) rfl
theorem q3053 : (Jvm.Cond.instanceMethod ({ cls := "CodeLayoutModel", name := "cut", desc := "()V" } : Jvm.MethodName)) ∈ lw_all := lw_g (lw_at lw_m12 188 rfl) rfl
theorem q3054 : (Jvm.Cond.code ({ cls := "CodeLayoutModel", name := "cut", desc := "()V" } : Jvm.MethodName) prog_16_method_28_code (5 : Nat) (Option.none : Option Jvm.ClassFile.FieldType)) ∈ lw_all := lw_g (lw_at lw_m12 189 rfl) rfl
theorem q3055 : (Jvm.Cond.methodLink "CodeLayoutModel" (396 : Nat) ({ cls := "CodeLayoutModel", name := "lead", desc := "(I)V" } : Jvm.MethodName)) ∈ lw_all := lw_g (lw_at lw_m12 190 rfl) rfl
theorem q3057 : (Jvm.Cond.instanceMethod ({ cls := "CodeLayoutModel", name := "lead", desc := "(I)V" } : Jvm.MethodName)) ∈ lw_all := lw_g (lw_at lw_m12 192 rfl) rfl
theorem q3058 : (Jvm.Cond.code ({ cls := "CodeLayoutModel", name := "lead", desc := "(I)V" } : Jvm.MethodName) prog_16_method_27_code (2 : Nat) (Option.none : Option Jvm.ClassFile.FieldType)) ∈ lw_all := lw_g (lw_at lw_m12 193 rfl) rfl
theorem q3059 : (Jvm.Cond.methodLink "CodeLayoutModel" (402 : Nat) ({ cls := "CodeLayoutModel", name := "close", desc := "(I)V" } : Jvm.MethodName)) ∈ lw_all := lw_g (lw_at lw_m12 194 rfl) rfl
theorem q3061 : (Jvm.Cond.instanceMethod ({ cls := "CodeLayoutModel", name := "close", desc := "(I)V" } : Jvm.MethodName)) ∈ lw_all := lw_g (lw_at lw_m12 196 rfl) rfl
theorem q3062 : (Jvm.Cond.code ({ cls := "CodeLayoutModel", name := "close", desc := "(I)V" } : Jvm.MethodName) prog_16_method_30_code (6 : Nat) (Option.none : Option Jvm.ClassFile.FieldType)) ∈ lw_all := lw_g (lw_at lw_m12 197 rfl) rfl
theorem q3063 : (Jvm.Cond.methodLink "CodeLayoutModel" (405 : Nat) ({ cls := "CodeLayoutModel", name := "last", desc := "(I)I" } : Jvm.MethodName)) ∈ lw_all := lw_g (lw_at lw_m12 198 rfl) rfl
theorem q3065 : (Jvm.Cond.instanceMethod ({ cls := "CodeLayoutModel", name := "last", desc := "(I)I" } : Jvm.MethodName)) ∈ lw_all := lw_g (lw_at lw_m12 200 rfl) rfl
theorem q3066 : (Jvm.Cond.code ({ cls := "CodeLayoutModel", name := "last", desc := "(I)I" } : Jvm.MethodName) prog_16_method_29_code (2 : Nat) (Option.some Jvm.ClassFile.FieldType.int)) ∈ lw_all := lw_g (lw_at lw_m12 201 rfl) rfl
theorem q3067 : (Jvm.Cond.methodLink "CodeLayoutModel" (278 : Nat) ({ cls := "CodeLayoutModel", name := "forget", desc := "()V" } : Jvm.MethodName)) ∈ lw_all := lw_g (lw_at lw_m12 202 rfl) rfl
theorem q3069 : (Jvm.Cond.instanceMethod ({ cls := "CodeLayoutModel", name := "forget", desc := "()V" } : Jvm.MethodName)) ∈ lw_all := lw_g (lw_at lw_m12 204 rfl) rfl
theorem q3070 : (Jvm.Cond.code ({ cls := "CodeLayoutModel", name := "forget", desc := "()V" } : Jvm.MethodName) prog_16_method_79_code (1 : Nat) (Option.none : Option Jvm.ClassFile.FieldType)) ∈ lw_all := lw_g (lw_at lw_m12 205 rfl) rfl
theorem q3071 : (Jvm.Cond.methodLink "CodeLayoutLaw" (31 : Nat) ({ cls := "CodeLayoutModel", name := "place", desc := "()I" } : Jvm.MethodName)) ∈ lw_all := lw_g (lw_at lw_m12 206 rfl) rfl
theorem q3072 : (Jvm.Cond.instanceMethod ({ cls := "CodeLayoutModel", name := "place", desc := "()I" } : Jvm.MethodName)) ∈ lw_all := lw_g (lw_at lw_m12 207 rfl) rfl
theorem q3073 : (Jvm.Cond.selects "CodeLayoutModel" ({ cls := "CodeLayoutModel", name := "place", desc := "()I" } : Jvm.MethodName) ({ cls := "CodeLayoutModel", name := "place", desc := "()I" } : Jvm.MethodName)) ∈ lw_all := lw_g (lw_at lw_m12 208 rfl) rfl
theorem q3074 : (Jvm.Cond.code ({ cls := "CodeLayoutModel", name := "place", desc := "()I" } : Jvm.MethodName) prog_16_method_17_code (1 : Nat) (Option.some Jvm.ClassFile.FieldType.int)) ∈ lw_all := lw_g (lw_at lw_m12 209 rfl) rfl
theorem q3075 : (Jvm.Cond.methodLink "CodeLayoutLaw" (36 : Nat) ({ cls := "CodeLayoutModel", name := "count", desc := "(I)I" } : Jvm.MethodName)) ∈ lw_all := lw_g (lw_at lw_m12 210 rfl) rfl
theorem q3076 : (Jvm.Cond.instanceMethod ({ cls := "CodeLayoutModel", name := "count", desc := "(I)I" } : Jvm.MethodName)) ∈ lw_all := lw_g (lw_at lw_m12 211 rfl) rfl
theorem q3077 : (Jvm.Cond.selects "CodeLayoutModel" ({ cls := "CodeLayoutModel", name := "count", desc := "(I)I" } : Jvm.MethodName) ({ cls := "CodeLayoutModel", name := "count", desc := "(I)I" } : Jvm.MethodName)) ∈ lw_all := lw_g (lw_at lw_m12 212 rfl) rfl
theorem q3078 : (Jvm.Cond.code ({ cls := "CodeLayoutModel", name := "count", desc := "(I)I" } : Jvm.MethodName) prog_16_method_32_code (2 : Nat) (Option.some Jvm.ClassFile.FieldType.int)) ∈ lw_all := lw_g (lw_at lw_m12 213 rfl) rfl
theorem q3079 : (Jvm.Cond.methodLink "CodeLayoutLaw" (41 : Nat) ({ cls := "CodeLayoutModel", name := "function", desc := "(II)J" } : Jvm.MethodName)) ∈ lw_all := lw_g (lw_at lw_m12 214 rfl) rfl
theorem q3080 : (Jvm.Cond.instanceMethod ({ cls := "CodeLayoutModel", name := "function", desc := "(II)J" } : Jvm.MethodName)) ∈ lw_all := lw_g (lw_at lw_m12 215 rfl) rfl
theorem q3081 : (Jvm.Cond.selects "CodeLayoutModel" ({ cls := "CodeLayoutModel", name := "function", desc := "(II)J" } : Jvm.MethodName) ({ cls := "CodeLayoutModel", name := "function", desc := "(II)J" } : Jvm.MethodName)) ∈ lw_all := lw_g (lw_at lw_m12 216 rfl) rfl
theorem q3082 : (Jvm.Cond.code ({ cls := "CodeLayoutModel", name := "function", desc := "(II)J" } : Jvm.MethodName) prog_16_method_33_code (3 : Nat) (Option.some Jvm.ClassFile.FieldType.long)) ∈ lw_all := lw_g (lw_at lw_m12 217 rfl) rfl
theorem q3083 : (Jvm.Cond.constantLong "CodeLayoutModel" (408 : Nat) (-14 : Int64)) ∈ lw_all := lw_g (lw_at lw_m12 218 rfl) rfl
theorem q3084 : (Jvm.Cond.methodLink "CodeLayoutModel" (410 : Nat) ({ cls := "CodeLayoutModel", name := "heat", desc := "(I)J" } : Jvm.MethodName)) ∈ lw_all := lw_g (lw_at lw_m12 219 rfl) rfl
theorem q3086 : (Jvm.Cond.instanceMethod ({ cls := "CodeLayoutModel", name := "heat", desc := "(I)J" } : Jvm.MethodName)) ∈ lw_all := lw_g (lw_at lw_m12 221 rfl) rfl
theorem q3087 : (Jvm.Cond.code ({ cls := "CodeLayoutModel", name := "heat", desc := "(I)J" } : Jvm.MethodName) prog_16_method_43_code (5 : Nat) (Option.some Jvm.ClassFile.FieldType.long)) ∈ lw_all := lw_g (lw_at lw_m12 222 rfl) rfl
theorem q3088 : (Jvm.Cond.methodLink "CodeLayoutLaw" (45 : Nat) ({ cls := "CodeLayoutModel", name := "block", desc := "(II)J" } : Jvm.MethodName)) ∈ lw_all := lw_g (lw_at lw_m12 223 rfl) rfl
theorem q3089 : (Jvm.Cond.instanceMethod ({ cls := "CodeLayoutModel", name := "block", desc := "(II)J" } : Jvm.MethodName)) ∈ lw_all := lw_g (lw_at lw_m12 224 rfl) rfl
theorem q3090 : (Jvm.Cond.selects "CodeLayoutModel" ({ cls := "CodeLayoutModel", name := "block", desc := "(II)J" } : Jvm.MethodName) ({ cls := "CodeLayoutModel", name := "block", desc := "(II)J" } : Jvm.MethodName)) ∈ lw_all := lw_g (lw_at lw_m12 225 rfl) rfl
theorem q3091 : (Jvm.Cond.code ({ cls := "CodeLayoutModel", name := "block", desc := "(II)J" } : Jvm.MethodName) prog_16_method_34_code (3 : Nat) (Option.some Jvm.ClassFile.FieldType.long)) ∈ lw_all := lw_g (lw_at lw_m12 226 rfl) rfl
theorem q3092 : (Jvm.Cond.methodLink "CodeLayoutModel" (413 : Nat) ({ cls := "CodeLayoutModel", name := "next", desc := "(I)I" } : Jvm.MethodName)) ∈ lw_all := lw_g (lw_at lw_m12 227 rfl) rfl
theorem q3094 : (Jvm.Cond.instanceMethod ({ cls := "CodeLayoutModel", name := "next", desc := "(I)I" } : Jvm.MethodName)) ∈ lw_all := lw_g (lw_at lw_m12 229 rfl) rfl
theorem q3095 : (Jvm.Cond.code ({ cls := "CodeLayoutModel", name := "next", desc := "(I)I" } : Jvm.MethodName) prog_16_method_31_code (2 : Nat) (Option.some Jvm.ClassFile.FieldType.int)) ∈ lw_all := lw_g (lw_at lw_m12 230 rfl) rfl
theorem q3096 : (Jvm.Cond.methodLink "CodeLayoutModel" (416 : Nat) ({ cls := "CodeLayoutModel", name := "countOf", desc := "(I)J" } : Jvm.MethodName)) ∈ lw_all := lw_g (lw_at lw_m12 231 rfl) rfl
theorem q3098 : (Jvm.Cond.instanceMethod ({ cls := "CodeLayoutModel", name := "countOf", desc := "(I)J" } : Jvm.MethodName)) ∈ lw_all := lw_g (lw_at lw_m12 233 rfl) rfl
theorem q3099 : (Jvm.Cond.code ({ cls := "CodeLayoutModel", name := "countOf", desc := "(I)J" } : Jvm.MethodName) prog_16_method_44_code (9 : Nat) (Option.some Jvm.ClassFile.FieldType.long)) ∈ lw_all := lw_g (lw_at lw_m12 234 rfl) rfl
theorem q3100 : (Jvm.Cond.methodLink "CodeLayoutModel" (435 : Nat) ({ cls := "java/lang/Math", name := "max", desc := "(JJ)J" } : Jvm.MethodName)) ∈ lw_all := lw_g (lw_at lw_m12 235 rfl) rfl
theorem q3101 : (Jvm.Cond.methodLink "CodeLayoutLaw" (52 : Nat) ({ cls := "CodeLayoutModel", name := "edge", desc := "(JJI)I" } : Jvm.MethodName)) ∈ lw_all := lw_g (lw_at lw_m12 236 rfl) rfl
theorem q3102 : (Jvm.Cond.instanceMethod ({ cls := "CodeLayoutModel", name := "edge", desc := "(JJI)I" } : Jvm.MethodName)) ∈ lw_all := lw_g (lw_at lw_m12 237 rfl) rfl
theorem q3103 : (Jvm.Cond.selects "CodeLayoutModel" ({ cls := "CodeLayoutModel", name := "edge", desc := "(JJI)I" } : Jvm.MethodName) ({ cls := "CodeLayoutModel", name := "edge", desc := "(JJI)I" } : Jvm.MethodName)) ∈ lw_all := lw_g (lw_at lw_m12 238 rfl) rfl
theorem q3104 : (Jvm.Cond.code ({ cls := "CodeLayoutModel", name := "edge", desc := "(JJI)I" } : Jvm.MethodName) prog_16_method_39_code (12 : Nat) (Option.some Jvm.ClassFile.FieldType.int)) ∈ lw_all := lw_g (lw_at lw_m12 239 rfl) rfl
theorem q3105 : (Jvm.Cond.constant "CodeLayoutModel" (422 : Nat) (1000000000 : Int32)) ∈ lw_all := lw_g (lw_at lw_m13 0 rfl) rfl
theorem q3106 : (Jvm.Cond.methodLink "CodeLayoutModel" (423 : Nat) ({ cls := "CodeLayoutModel", name := "wordAt", desc := "(J)I" } : Jvm.MethodName)) ∈ lw_all := lw_g (lw_at lw_m13 1 rfl) rfl
theorem q3108 : (Jvm.Cond.instanceMethod ({ cls := "CodeLayoutModel", name := "wordAt", desc := "(J)I" } : Jvm.MethodName)) ∈ lw_all := lw_g (lw_at lw_m13 3 rfl) rfl
theorem q3109 : (Jvm.Cond.code ({ cls := "CodeLayoutModel", name := "wordAt", desc := "(J)I" } : Jvm.MethodName) prog_16_method_38_code (3 : Nat) (Option.some Jvm.ClassFile.FieldType.int)) ∈ lw_all := lw_g (lw_at lw_m13 4 rfl) rfl
theorem q3110 : (Jvm.Cond.methodLink "CodeLayoutModel" (426 : Nat) ({ cls := "CodeLayoutModel", name := "isWay", desc := "(II)Z" } : Jvm.MethodName)) ∈ lw_all := lw_g (lw_at lw_m13 5 rfl) rfl
theorem q3112 : (Jvm.Cond.instanceMethod ({ cls := "CodeLayoutModel", name := "isWay", desc := "(II)Z" } : Jvm.MethodName)) ∈ lw_all := lw_g (lw_at lw_m13 7 rfl) rfl
theorem q3113 : (Jvm.Cond.code ({ cls := "CodeLayoutModel", name := "isWay", desc := "(II)Z" } : Jvm.MethodName) prog_16_method_36_code (3 : Nat) (Option.some Jvm.ClassFile.FieldType.boolean)) ∈ lw_all := lw_g (lw_at lw_m13 8 rfl) rfl
theorem q3114 : (Jvm.Cond.methodLink "CodeLayoutModel" (429 : Nat) ({ cls := "CodeLayoutModel", name := "isCallOf", desc := "(II)Z" } : Jvm.MethodName)) ∈ lw_all := lw_g (lw_at lw_m13 9 rfl) rfl
theorem q3116 : (Jvm.Cond.instanceMethod ({ cls := "CodeLayoutModel", name := "isCallOf", desc := "(II)Z" } : Jvm.MethodName)) ∈ lw_all := lw_g (lw_at lw_m13 11 rfl) rfl
theorem q3117 : (Jvm.Cond.code ({ cls := "CodeLayoutModel", name := "isCallOf", desc := "(II)Z" } : Jvm.MethodName) prog_16_method_37_code (4 : Nat) (Option.some Jvm.ClassFile.FieldType.boolean)) ∈ lw_all := lw_g (lw_at lw_m13 12 rfl) rfl
theorem q3118 : (Jvm.Cond.methodLink "CodeLayoutModel" (419 : Nat) ({ cls := "CodeLayoutModel", name := "isFirstBlock", desc := "(I)Z" } : Jvm.MethodName)) ∈ lw_all := lw_g (lw_at lw_m13 13 rfl) rfl
theorem q3120 : (Jvm.Cond.instanceMethod ({ cls := "CodeLayoutModel", name := "isFirstBlock", desc := "(I)Z" } : Jvm.MethodName)) ∈ lw_all := lw_g (lw_at lw_m13 15 rfl) rfl
theorem q3121 : (Jvm.Cond.code ({ cls := "CodeLayoutModel", name := "isFirstBlock", desc := "(I)Z" } : Jvm.MethodName) prog_16_method_35_code (2 : Nat) (Option.some Jvm.ClassFile.FieldType.boolean)) ∈ lw_all := lw_g (lw_at lw_m13 16 rfl) rfl
theorem q3122 : (Jvm.Cond.methodLink "CodeLayoutModel" (432 : Nat) ({ cls := "CodeLayoutModel", name := "more", desc := "()V" } : Jvm.MethodName)) ∈ lw_all := lw_g (lw_at lw_m13 17 rfl) rfl
theorem q3124 : (Jvm.Cond.instanceMethod ({ cls := "CodeLayoutModel", name := "more", desc := "()V" } : Jvm.MethodName)) ∈ lw_all := lw_g (lw_at lw_m13 19 rfl) rfl
theorem q3125 : (Jvm.Cond.code ({ cls := "CodeLayoutModel", name := "more", desc := "()V" } : Jvm.MethodName) prog_16_method_40_code (6 : Nat) (Option.none : Option Jvm.ClassFile.FieldType)) ∈ lw_all := lw_g (lw_at lw_m13 20 rfl) rfl
theorem q3126 : (Jvm.Cond.methodLink "CodeLayoutLaw" (56 : Nat) ({ cls := "CodeLayoutModel", name := "way", desc := "(II)J" } : Jvm.MethodName)) ∈ lw_all := lw_g (lw_at lw_m13 21 rfl) rfl
theorem q3127 : (Jvm.Cond.instanceMethod ({ cls := "CodeLayoutModel", name := "way", desc := "(II)J" } : Jvm.MethodName)) ∈ lw_all := lw_g (lw_at lw_m13 22 rfl) rfl
theorem q3128 : (Jvm.Cond.selects "CodeLayoutModel" ({ cls := "CodeLayoutModel", name := "way", desc := "(II)J" } : Jvm.MethodName) ({ cls := "CodeLayoutModel", name := "way", desc := "(II)J" } : Jvm.MethodName)) ∈ lw_all := lw_g (lw_at lw_m13 23 rfl) rfl
theorem q3129 : (Jvm.Cond.code ({ cls := "CodeLayoutModel", name := "way", desc := "(II)J" } : Jvm.MethodName) prog_16_method_41_code (4 : Nat) (Option.some Jvm.ClassFile.FieldType.long)) ∈ lw_all := lw_g (lw_at lw_m13 24 rfl) rfl
theorem q3130 : (Jvm.Cond.methodLink "CodeLayoutLaw" (60 : Nat) ({ cls := "CodeLayoutModel", name := "calls", desc := "(II)J" } : Jvm.MethodName)) ∈ lw_all := lw_g (lw_at lw_m13 25 rfl) rfl
theorem q3131 : (Jvm.Cond.instanceMethod ({ cls := "CodeLayoutModel", name := "calls", desc := "(II)J" } : Jvm.MethodName)) ∈ lw_all := lw_g (lw_at lw_m13 26 rfl) rfl
theorem q3132 : (Jvm.Cond.selects "CodeLayoutModel" ({ cls := "CodeLayoutModel", name := "calls", desc := "(II)J" } : Jvm.MethodName) ({ cls := "CodeLayoutModel", name := "calls", desc := "(II)J" } : Jvm.MethodName)) ∈ lw_all := lw_g (lw_at lw_m13 27 rfl) rfl
theorem q3133 : (Jvm.Cond.code ({ cls := "CodeLayoutModel", name := "calls", desc := "(II)J" } : Jvm.MethodName) prog_16_method_42_code (6 : Nat) (Option.some Jvm.ClassFile.FieldType.long)) ∈ lw_all := lw_g (lw_at lw_m13 28 rfl) rfl
theorem q3134 : (Jvm.Cond.methodLink "CodeLayoutLaw" (99 : Nat) ({ cls := "CodeLayoutModel", name := "same", desc := "()Z" } : Jvm.MethodName)) ∈ lw_all := lw_g (lw_at lw_m13 29 rfl) rfl
theorem q3135 : (Jvm.Cond.instanceMethod ({ cls := "CodeLayoutModel", name := "same", desc := "()Z" } : Jvm.MethodName)) ∈ lw_all := lw_g (lw_at lw_m13 30 rfl) rfl
theorem q3136 : (Jvm.Cond.selects "CodeLayoutModel" ({ cls := "CodeLayoutModel", name := "same", desc := "()Z" } : Jvm.MethodName) ({ cls := "CodeLayoutModel", name := "same", desc := "()Z" } : Jvm.MethodName)) ∈ lw_all := lw_g (lw_at lw_m13 31 rfl) rfl
theorem q3137 : (Jvm.Cond.code ({ cls := "CodeLayoutModel", name := "same", desc := "()Z" } : Jvm.MethodName) prog_16_method_57_code (3 : Nat) (Option.some Jvm.ClassFile.FieldType.boolean)) ∈ lw_all := lw_g (lw_at lw_m13 32 rfl) rfl
theorem q3138 : (Jvm.Cond.methodLink "CodeLayoutModel" (484 : Nat) ({ cls := "CodeLayoutModel$Written", name := "shape", desc := "()V" } : Jvm.MethodName)) ∈ lw_all := lw_g (lw_at lw_m13 33 rfl) rfl
theorem q3139 : (Jvm.Cond.instanceMethod ({ cls := "CodeLayoutModel$Written", name := "shape", desc := "()V" } : Jvm.MethodName)) ∈ lw_all := lw_g (lw_at lw_m13 34 rfl) rfl
theorem q3140 : (Jvm.Cond.selects "CodeLayoutModel$Written" ({ cls := "CodeLayoutModel$Written", name := "shape", desc := "()V" } : Jvm.MethodName) ({ cls := "CodeLayoutModel$Written", name := "shape", desc := "()V" } : Jvm.MethodName)) ∈ lw_all := lw_g (lw_at lw_m13 35 rfl) rfl
theorem q3141 : (Jvm.Cond.code ({ cls := "CodeLayoutModel$Written", name := "shape", desc := "()V" } : Jvm.MethodName) prog_19_method_2_code (4 : Nat) (Option.none : Option Jvm.ClassFile.FieldType)) ∈ lw_all := lw_g (lw_at lw_m13 36 rfl) rfl
theorem q3142 : (Jvm.Cond.methodLinkNest "CodeLayoutModel$Written" (55 : Nat) ({ cls := "CodeLayoutModel", name := "next", desc := "(I)I" } : Jvm.MethodName) "CodeLayoutModel") ∈ lw_tbl := lw_at lw_m13 37 rfl
theorem q3143 : (Jvm.Cond.methodLink "CodeLayoutModel" (487 : Nat) ({ cls := "CodeLayoutModel$Written", name := "settle", desc := "(J)V" } : Jvm.MethodName)) ∈ lw_all := lw_g (lw_at lw_m13 38 rfl) rfl
theorem q3144 : (Jvm.Cond.instanceMethod ({ cls := "CodeLayoutModel$Written", name := "settle", desc := "(J)V" } : Jvm.MethodName)) ∈ lw_all := lw_g (lw_at lw_m13 39 rfl) rfl
theorem q3145 : (Jvm.Cond.selects "CodeLayoutModel$Written" ({ cls := "CodeLayoutModel$Written", name := "settle", desc := "(J)V" } : Jvm.MethodName) ({ cls := "CodeLayoutModel$Written", name := "settle", desc := "(J)V" } : Jvm.MethodName)) ∈ lw_all := lw_g (lw_at lw_m13 40 rfl) rfl
theorem q3146 : (Jvm.Cond.code ({ cls := "CodeLayoutModel$Written", name := "settle", desc := "(J)V" } : Jvm.MethodName) prog_19_method_6_code (7 : Nat) (Option.none : Option Jvm.ClassFile.FieldType)) ∈ lw_all := lw_g (lw_at lw_m13 41 rfl) rfl
theorem q3147 : (Jvm.Cond.methodLink "CodeLayoutModel$Written" (79 : Nat) ({ cls := "CodeLayoutModel$Written", name := "putAll", desc := "(J)V" } : Jvm.MethodName)) ∈ lw_all := lw_g (lw_at lw_m13 42 rfl) rfl
theorem q3148 : (Jvm.Cond.instanceMethod ({ cls := "CodeLayoutModel$Written", name := "putAll", desc := "(J)V" } : Jvm.MethodName)) ∈ lw_all := lw_g (lw_at lw_m13 43 rfl) rfl
theorem q3149 : (Jvm.Cond.selects "CodeLayoutModel$Written" ({ cls := "CodeLayoutModel$Written", name := "putAll", desc := "(J)V" } : Jvm.MethodName) ({ cls := "CodeLayoutModel$Written", name := "putAll", desc := "(J)V" } : Jvm.MethodName)) ∈ lw_all := lw_g (lw_at lw_m13 44 rfl) rfl
theorem q3150 : (Jvm.Cond.code ({ cls := "CodeLayoutModel$Written", name := "putAll", desc := "(J)V" } : Jvm.MethodName) prog_19_method_5_code (7 : Nat) (Option.none : Option Jvm.ClassFile.FieldType)) ∈ lw_all := lw_g (lw_at lw_m13 45 rfl) rfl
theorem q3151 : (Jvm.Cond.constantLong "CodeLayoutModel$Written" (71 : Nat) (4 : Int64)) ∈ lw_all := lw_g (lw_at lw_m13 46 rfl) rfl
theorem q3152 : (Jvm.Cond.methodLink "CodeLayoutModel$Written" (73 : Nat) ({ cls := "CodeLayoutModel$Written", name := "length", desc := "(I)I" } : Jvm.MethodName)) ∈ lw_all := lw_g (lw_at lw_m13 47 rfl) rfl
theorem q3153 : (Jvm.Cond.instanceMethod ({ cls := "CodeLayoutModel$Written", name := "length", desc := "(I)I" } : Jvm.MethodName)) ∈ lw_all := lw_g (lw_at lw_m13 48 rfl) rfl
theorem q3154 : (Jvm.Cond.selects "CodeLayoutModel$Written" ({ cls := "CodeLayoutModel$Written", name := "length", desc := "(I)I" } : Jvm.MethodName) ({ cls := "CodeLayoutModel$Written", name := "length", desc := "(I)I" } : Jvm.MethodName)) ∈ lw_all := lw_g (lw_at lw_m13 49 rfl) rfl
theorem q3155 : (Jvm.Cond.code ({ cls := "CodeLayoutModel$Written", name := "length", desc := "(I)I" } : Jvm.MethodName) prog_19_method_3_code (2 : Nat) (Option.some Jvm.ClassFile.FieldType.int)) ∈ lw_all := lw_g (lw_at lw_m13 50 rfl) rfl
theorem q3156 : (Jvm.Cond.methodLink "CodeLayoutModel$Written" (83 : Nat) ({ cls := "CodeLayoutModel$Written", name := "goal", desc := "(I)I" } : Jvm.MethodName)) ∈ lw_all := lw_g (lw_at lw_m13 51 rfl) rfl
theorem q3157 : (Jvm.Cond.instanceMethod ({ cls := "CodeLayoutModel$Written", name := "goal", desc := "(I)I" } : Jvm.MethodName)) ∈ lw_all := lw_g (lw_at lw_m13 52 rfl) rfl
theorem q3158 : (Jvm.Cond.selects "CodeLayoutModel$Written" ({ cls := "CodeLayoutModel$Written", name := "goal", desc := "(I)I" } : Jvm.MethodName) ({ cls := "CodeLayoutModel$Written", name := "goal", desc := "(I)I" } : Jvm.MethodName)) ∈ lw_all := lw_g (lw_at lw_m13 53 rfl) rfl
theorem q3159 : (Jvm.Cond.code ({ cls := "CodeLayoutModel$Written", name := "goal", desc := "(I)I" } : Jvm.MethodName) prog_19_method_4_code (2 : Nat) (Option.some Jvm.ClassFile.FieldType.int)) ∈ lw_all := lw_g (lw_at lw_m13 54 rfl) rfl
theorem q3160 : (Jvm.Cond.methodLinkNest "CodeLayoutModel$Written" (89 : Nat) ({ cls := "CodeLayoutModel", name := "last", desc := "(I)I" } : Jvm.MethodName) "CodeLayoutModel") ∈ lw_tbl := lw_at lw_m13 55 rfl
theorem q3161 : (Jvm.Cond.methodLinkNest "CodeLayoutModel$Written" (92 : Nat) ({ cls := "CodeLayoutModel", name := "sort", desc := "(I)I" } : Jvm.MethodName) "CodeLayoutModel") ∈ lw_tbl := lw_at lw_m13 56 rfl
theorem q3162 : (Jvm.Cond.constant "CodeLayoutModel$Written" (95 : Nat) (262144 : Int32)) ∈ lw_all := lw_g (lw_at lw_m13 57 rfl) rfl
theorem q3163 : (Jvm.Cond.methodLink "CodeLayoutModel" (494 : Nat) ({ cls := "CodeLayoutModel$Written", name := "length", desc := "(I)I" } : Jvm.MethodName)) ∈ lw_all := lw_g (lw_at lw_m13 58 rfl) rfl
theorem q3164 : (Jvm.Cond.methodLink "CodeLayoutModel" (497 : Nat) ({ cls := "CodeLayoutModel$Written", name := "whole", desc := "(II)I" } : Jvm.MethodName)) ∈ lw_all := lw_g (lw_at lw_m13 59 rfl) rfl
theorem q3165 : (Jvm.Cond.instanceMethod ({ cls := "CodeLayoutModel$Written", name := "whole", desc := "(II)I" } : Jvm.MethodName)) ∈ lw_all := lw_g (lw_at lw_m13 60 rfl) rfl
theorem q3166 : (Jvm.Cond.selects "CodeLayoutModel$Written" ({ cls := "CodeLayoutModel$Written", name := "whole", desc := "(II)I" } : Jvm.MethodName) ({ cls := "CodeLayoutModel$Written", name := "whole", desc := "(II)I" } : Jvm.MethodName)) ∈ lw_all := lw_g (lw_at lw_m13 61 rfl) rfl
theorem q3167 : (Jvm.Cond.code ({ cls := "CodeLayoutModel$Written", name := "whole", desc := "(II)I" } : Jvm.MethodName) prog_19_method_14_code (3 : Nat) (Option.some Jvm.ClassFile.FieldType.int)) ∈ lw_all := lw_g (lw_at lw_m13 62 rfl) rfl
theorem q3168 : (Jvm.Cond.methodLink "CodeLayoutModel$Written" (156 : Nat) ({ cls := "CodeLayoutModel$Written", name := "word", desc := "(II)I" } : Jvm.MethodName)) ∈ lw_all := lw_g (lw_at lw_m13 63 rfl) rfl
theorem q3169 : (Jvm.Cond.instanceMethod ({ cls := "CodeLayoutModel$Written", name := "word", desc := "(II)I" } : Jvm.MethodName)) ∈ lw_all := lw_g (lw_at lw_m13 64 rfl) rfl
theorem q3170 : (Jvm.Cond.selects "CodeLayoutModel$Written" ({ cls := "CodeLayoutModel$Written", name := "word", desc := "(II)I" } : Jvm.MethodName) ({ cls := "CodeLayoutModel$Written", name := "word", desc := "(II)I" } : Jvm.MethodName)) ∈ lw_all := lw_g (lw_at lw_m13 65 rfl) rfl
theorem q3171 : (Jvm.Cond.code ({ cls := "CodeLayoutModel$Written", name := "word", desc := "(II)I" } : Jvm.MethodName) prog_19_method_7_code (7 : Nat) (Option.some Jvm.ClassFile.FieldType.int)) ∈ lw_all := lw_g (lw_at lw_m13 66 rfl) rfl
theorem q3172 : (Jvm.Cond.methodLink "CodeLayoutModel$Written" (99 : Nat) ({ cls := "CodeLayoutModel$Written", name := "turned", desc := "(I)I" } : Jvm.MethodName)) ∈ lw_all := lw_g (lw_at lw_m13 67 rfl) rfl
theorem q3174 : (Jvm.Cond.instanceMethod ({ cls := "CodeLayoutModel$Written", name := "turned", desc := "(I)I" } : Jvm.MethodName)) ∈ lw_all := lw_g (lw_at lw_m13 69 rfl) rfl
theorem q3175 : (Jvm.Cond.code ({ cls := "CodeLayoutModel$Written", name := "turned", desc := "(I)I" } : Jvm.MethodName) prog_19_method_10_code (2 : Nat) (Option.some Jvm.ClassFile.FieldType.int)) ∈ lw_all := lw_g (lw_at lw_m13 70 rfl) rfl
theorem q3176 : (Jvm.Cond.constant "CodeLayoutModel$Written" (119 : Nat) (16777216 : Int32)) ∈ lw_all := lw_g (lw_at lw_m13 71 rfl) rfl
theorem q3177 : (Jvm.Cond.methodLink "CodeLayoutModel$Written" (102 : Nat) ({ cls := "CodeLayoutModel$Written", name := "aimed", desc := "(II)I" } : Jvm.MethodName)) ∈ lw_all := lw_g (lw_at lw_m13 72 rfl) rfl
theorem q3179 : (Jvm.Cond.instanceMethod ({ cls := "CodeLayoutModel$Written", name := "aimed", desc := "(II)I" } : Jvm.MethodName)) ∈ lw_all := lw_g (lw_at lw_m13 74 rfl) rfl
theorem q3180 : (Jvm.Cond.code ({ cls := "CodeLayoutModel$Written", name := "aimed", desc := "(II)I" } : Jvm.MethodName) prog_19_method_9_code (7 : Nat) (Option.some Jvm.ClassFile.FieldType.int)) ∈ lw_all := lw_g (lw_at lw_m13 75 rfl) rfl
theorem q3181 : (Jvm.Cond.methodLink "CodeLayoutModel$Written" (106 : Nat) ({ cls := "CodeLayoutModel$Written", name := "jump", desc := "(II)I" } : Jvm.MethodName)) ∈ lw_all := lw_g (lw_at lw_m13 76 rfl) rfl
theorem q3183 : (Jvm.Cond.instanceMethod ({ cls := "CodeLayoutModel$Written", name := "jump", desc := "(II)I" } : Jvm.MethodName)) ∈ lw_all := lw_g (lw_at lw_m13 78 rfl) rfl
theorem q3184 : (Jvm.Cond.code ({ cls := "CodeLayoutModel$Written", name := "jump", desc := "(II)I" } : Jvm.MethodName) prog_19_method_8_code (3 : Nat) (Option.some Jvm.ClassFile.FieldType.int)) ∈ lw_all := lw_g (lw_at lw_m13 79 rfl) rfl
theorem q3185 : (Jvm.Cond.constant "CodeLayoutModel$Written" (115 : Nat) (335544320 : Int32)) ∈ lw_all := lw_g (lw_at lw_m13 80 rfl) rfl
theorem q3186 : (Jvm.Cond.methodLinkNest "CodeLayoutModel$Written" (112 : Nat) ({ cls := "CodeLayoutModel", name := "far", desc := "(II)I" } : Jvm.MethodName) "CodeLayoutModel") ∈ lw_tbl := lw_at lw_m13 81 rfl
theorem q3187 : (Jvm.Cond.methodLink "CodeLayoutModel$Written" (159 : Nat) ({ cls := "CodeLayoutModel$Written", name := "fixed", desc := "(II)I" } : Jvm.MethodName)) ∈ lw_all := lw_g (lw_at lw_m13 82 rfl) rfl
theorem q3188 : (Jvm.Cond.instanceMethod ({ cls := "CodeLayoutModel$Written", name := "fixed", desc := "(II)I" } : Jvm.MethodName)) ∈ lw_all := lw_g (lw_at lw_m13 83 rfl) rfl
theorem q3189 : (Jvm.Cond.selects "CodeLayoutModel$Written" ({ cls := "CodeLayoutModel$Written", name := "fixed", desc := "(II)I" } : Jvm.MethodName) ({ cls := "CodeLayoutModel$Written", name := "fixed", desc := "(II)I" } : Jvm.MethodName)) ∈ lw_all := lw_g (lw_at lw_m13 84 rfl) rfl
theorem q3190 : (Jvm.Cond.code ({ cls := "CodeLayoutModel$Written", name := "fixed", desc := "(II)I" } : Jvm.MethodName) prog_19_method_13_code (10 : Nat) (Option.some Jvm.ClassFile.FieldType.int)) ∈ lw_all := lw_g (lw_at lw_m13 85 rfl) rfl
theorem q3191 : (Jvm.Cond.methodLinkNest "CodeLayoutModel$Written" (123 : Nat) ({ cls := "CodeLayoutModel", name := "fixType", desc := "(J)I" } : Jvm.MethodName) "CodeLayoutModel") ∈ lw_tbl := lw_at lw_m13 86 rfl
theorem q3192 : (Jvm.Cond.methodLinkNest "CodeLayoutModel$Written" (127 : Nat) ({ cls := "CodeLayoutModel", name := "target", desc := "(J)J" } : Jvm.MethodName) "CodeLayoutModel") ∈ lw_tbl := lw_at lw_m13 87 rfl
theorem q3193 : (Jvm.Cond.methodLink "CodeLayoutModel$Written" (135 : Nat) ({ cls := "CodeLayoutModel$Heads", name := "isIn", desc := "(J)Z" } : Jvm.MethodName)) ∈ lw_all := lw_g (lw_at lw_m13 88 rfl) rfl
theorem q3194 : (Jvm.Cond.methodLink "CodeLayoutModel$Written" (141 : Nat) ({ cls := "CodeLayoutModel$Written", name := "newWord", desc := "(I)I" } : Jvm.MethodName)) ∈ lw_all := lw_g (lw_at lw_m13 89 rfl) rfl
theorem q3195 : (Jvm.Cond.instanceMethod ({ cls := "CodeLayoutModel$Written", name := "newWord", desc := "(I)I" } : Jvm.MethodName)) ∈ lw_all := lw_g (lw_at lw_m13 90 rfl) rfl
theorem q3196 : (Jvm.Cond.selects "CodeLayoutModel$Written" ({ cls := "CodeLayoutModel$Written", name := "newWord", desc := "(I)I" } : Jvm.MethodName) ({ cls := "CodeLayoutModel$Written", name := "newWord", desc := "(I)I" } : Jvm.MethodName)) ∈ lw_all := lw_g (lw_at lw_m13 91 rfl) rfl
theorem q3197 : (Jvm.Cond.code ({ cls := "CodeLayoutModel$Written", name := "newWord", desc := "(I)I" } : Jvm.MethodName) prog_19_method_11_code (2 : Nat) (Option.some Jvm.ClassFile.FieldType.int)) ∈ lw_all := lw_g (lw_at lw_m13 92 rfl) rfl
theorem q3198 : (Jvm.Cond.constant "CodeLayoutModel$Written" (144 : Nat) (-4193281 : Int32)) ∈ lw_all := lw_g (lw_at lw_m13 93 rfl) rfl
theorem q3199 : (Jvm.Cond.constantLong "CodeLayoutModel$Written" (145 : Nat) (4095 : Int64)) ∈ lw_all := lw_g (lw_at lw_m13 94 rfl) rfl
theorem q3200 : (Jvm.Cond.constantLong "CodeLayoutModel$Written" (147 : Nat) (-1048576 : Int64)) ∈ lw_all := lw_g (lw_at lw_m13 95 rfl) rfl
theorem q3201 : (Jvm.Cond.constantLong "CodeLayoutModel$Written" (149 : Nat) (1048575 : Int64)) ∈ lw_all := lw_g (lw_at lw_m13 96 rfl) rfl
theorem q3202 : (Jvm.Cond.constant "CodeLayoutModel$Written" (151 : Nat) (-1627389921 : Int32)) ∈ lw_all := lw_g (lw_at lw_m13 97 rfl) rfl
theorem q3203 : (Jvm.Cond.constantLong "CodeLayoutModel$Written" (152 : Nat) (3 : Int64)) ∈ lw_all := lw_g (lw_at lw_m13 98 rfl) rfl
theorem q3204 : (Jvm.Cond.constantLong "CodeLayoutModel$Written" (154 : Nat) (524287 : Int64)) ∈ lw_all := lw_g (lw_at lw_m13 99 rfl) rfl
theorem q3205 : (Jvm.Cond.methodLink "CodeLayoutLaw" (65 : Nat) ({ cls := "CodeLayoutModel", name := "lay", desc := "(II)I" } : Jvm.MethodName)) ∈ lw_all := lw_g (lw_at lw_m13 100 rfl) rfl
theorem q3206 : (Jvm.Cond.instanceMethod ({ cls := "CodeLayoutModel", name := "lay", desc := "(II)I" } : Jvm.MethodName)) ∈ lw_all := lw_g (lw_at lw_m13 101 rfl) rfl
theorem q3207 : (Jvm.Cond.selects "CodeLayoutModel" ({ cls := "CodeLayoutModel", name := "lay", desc := "(II)I" } : Jvm.MethodName) ({ cls := "CodeLayoutModel", name := "lay", desc := "(II)I" } : Jvm.MethodName)) ∈ lw_all := lw_g (lw_at lw_m13 102 rfl) rfl
theorem q3208 : (Jvm.Cond.code ({ cls := "CodeLayoutModel", name := "lay", desc := "(II)I" } : Jvm.MethodName) prog_16_method_60_code (6 : Nat) (Option.some Jvm.ClassFile.FieldType.int)) ∈ lw_all := lw_g (lw_at lw_m13 103 rfl) rfl
theorem q3209 : (Jvm.Cond.constant "CodeLayoutModel" (504 : Nat) (2097152 : Int32)) ∈ lw_all := lw_g (lw_at lw_m13 104 rfl) rfl
theorem q3210 : (Jvm.Cond.constant "CodeLayoutModel" (505 : Nat) (65536 : Int32)) ∈ lw_all := lw_g (lw_at lw_m13 105 rfl) rfl
theorem q3211 : (Jvm.Cond.methodLink "CodeLayoutModel" (506 : Nat) ({ cls := "CodeLayoutModel", name := "gather", desc := "(I)V" } : Jvm.MethodName)) ∈ lw_all := lw_g (lw_at lw_m13 106 rfl) rfl
theorem q3213 : (Jvm.Cond.instanceMethod ({ cls := "CodeLayoutModel", name := "gather", desc := "(I)V" } : Jvm.MethodName)) ∈ lw_all := lw_g (lw_at lw_m13 108 rfl) rfl
theorem q3214 : (Jvm.Cond.code ({ cls := "CodeLayoutModel", name := "gather", desc := "(I)V" } : Jvm.MethodName) prog_16_method_55_code (8 : Nat) (Option.none : Option Jvm.ClassFile.FieldType)) ∈ lw_all := lw_g (lw_at lw_m13 109 rfl) rfl
theorem q3215 : (Jvm.Cond.methodLink "CodeLayoutModel" (472 : Nat) ({ cls := "CodeLayoutModel", name := "hotWords", desc := "(I)I" } : Jvm.MethodName)) ∈ lw_all := lw_g (lw_at lw_m13 110 rfl) rfl
theorem q3217 : (Jvm.Cond.instanceMethod ({ cls := "CodeLayoutModel", name := "hotWords", desc := "(I)I" } : Jvm.MethodName)) ∈ lw_all := lw_g (lw_at lw_m13 112 rfl) rfl
theorem q3218 : (Jvm.Cond.code ({ cls := "CodeLayoutModel", name := "hotWords", desc := "(I)I" } : Jvm.MethodName) prog_16_method_54_code (4 : Nat) (Option.some Jvm.ClassFile.FieldType.int)) ∈ lw_all := lw_g (lw_at lw_m13 113 rfl) rfl
theorem q3219 : (Jvm.Cond.methodLink "CodeLayoutModel" (475 : Nat) ({ cls := "CodeLayoutModel", name := "callerOf", desc := "(I)I" } : Jvm.MethodName)) ∈ lw_all := lw_g (lw_at lw_m13 114 rfl) rfl
theorem q3221 : (Jvm.Cond.instanceMethod ({ cls := "CodeLayoutModel", name := "callerOf", desc := "(I)I" } : Jvm.MethodName)) ∈ lw_all := lw_g (lw_at lw_m13 116 rfl) rfl
theorem q3222 : (Jvm.Cond.code ({ cls := "CodeLayoutModel", name := "callerOf", desc := "(I)I" } : Jvm.MethodName) prog_16_method_56_code (4 : Nat) (Option.some Jvm.ClassFile.FieldType.int)) ∈ lw_all := lw_g (lw_at lw_m13 117 rfl) rfl
theorem q3223 : (Jvm.Cond.methodLink "CodeLayoutModel" (509 : Nat) ({ cls := "CodeLayoutModel", name := "orderAll", desc := "()I" } : Jvm.MethodName)) ∈ lw_all := lw_g (lw_at lw_m13 118 rfl) rfl
theorem q3225 : (Jvm.Cond.instanceMethod ({ cls := "CodeLayoutModel", name := "orderAll", desc := "()I" } : Jvm.MethodName)) ∈ lw_all := lw_g (lw_at lw_m13 120 rfl) rfl
theorem q3226 : (Jvm.Cond.code ({ cls := "CodeLayoutModel", name := "orderAll", desc := "()I" } : Jvm.MethodName) prog_16_method_61_code (9 : Nat) (Option.some Jvm.ClassFile.FieldType.int)) ∈ lw_all := lw_g (lw_at lw_m13 121 rfl) rfl
theorem q3227 : (Jvm.Cond.methodLink "CodeLayoutModel" (524 : Nat) ({ cls := "CodeLayoutModel", name := "orderOne", desc := "(II)I" } : Jvm.MethodName)) ∈ lw_all := lw_g (lw_at lw_m13 122 rfl) rfl
theorem q3229 : (Jvm.Cond.instanceMethod ({ cls := "CodeLayoutModel", name := "orderOne", desc := "(II)I" } : Jvm.MethodName)) ∈ lw_all := lw_g (lw_at lw_m13 124 rfl) rfl
theorem q3230 : (Jvm.Cond.code ({ cls := "CodeLayoutModel", name := "orderOne", desc := "(II)I" } : Jvm.MethodName) prog_16_method_48_code (15 : Nat) (Option.some Jvm.ClassFile.FieldType.int)) ∈ lw_all := lw_g (lw_at lw_m13 125 rfl) rfl
theorem q3231 : (Jvm.Cond.methodLink "CodeLayoutModel" (451 : Nat) ({ cls := "CodeLayoutModel", name := "join", desc := "(II)V" } : Jvm.MethodName)) ∈ lw_all := lw_g (lw_at lw_m13 126 rfl) rfl
theorem q3233 : (Jvm.Cond.instanceMethod ({ cls := "CodeLayoutModel", name := "join", desc := "(II)V" } : Jvm.MethodName)) ∈ lw_all := lw_g (lw_at lw_m13 128 rfl) rfl
theorem q3234 : (Jvm.Cond.code ({ cls := "CodeLayoutModel", name := "join", desc := "(II)V" } : Jvm.MethodName) prog_16_method_49_code (9 : Nat) (Option.none : Option Jvm.ClassFile.FieldType)) ∈ lw_all := lw_g (lw_at lw_m13 129 rfl) rfl
theorem q3235 : (Jvm.Cond.methodLink "CodeLayoutModel" (441 : Nat) ({ cls := "CodeLayoutModel", name := "falls", desc := "(II)Z" } : Jvm.MethodName)) ∈ lw_all := lw_g (lw_at lw_m13 130 rfl) rfl
theorem q3237 : (Jvm.Cond.instanceMethod ({ cls := "CodeLayoutModel", name := "falls", desc := "(II)Z" } : Jvm.MethodName)) ∈ lw_all := lw_g (lw_at lw_m13 132 rfl) rfl
theorem q3238 : (Jvm.Cond.code ({ cls := "CodeLayoutModel", name := "falls", desc := "(II)Z" } : Jvm.MethodName) prog_16_method_45_code (3 : Nat) (Option.some Jvm.ClassFile.FieldType.boolean)) ∈ lw_all := lw_g (lw_at lw_m13 133 rfl) rfl
theorem q3239 : (Jvm.Cond.methodLink "CodeLayoutModel" (469 : Nat) ({ cls := "CodeLayoutModel", name := "comesBefore", desc := "(II)Z" } : Jvm.MethodName)) ∈ lw_all := lw_g (lw_at lw_m13 134 rfl) rfl
theorem q3241 : (Jvm.Cond.instanceMethod ({ cls := "CodeLayoutModel", name := "comesBefore", desc := "(II)Z" } : Jvm.MethodName)) ∈ lw_all := lw_g (lw_at lw_m13 136 rfl) rfl
theorem q3242 : (Jvm.Cond.code ({ cls := "CodeLayoutModel", name := "comesBefore", desc := "(II)Z" } : Jvm.MethodName) prog_16_method_50_code (3 : Nat) (Option.some Jvm.ClassFile.FieldType.boolean)) ∈ lw_all := lw_g (lw_at lw_m13 137 rfl) rfl
theorem q3243 : (Jvm.Cond.methodLink "CodeLayoutModel" (455 : Nat) ({ cls := "CodeLayoutModel", name := "leastChain", desc := "(II)I" } : Jvm.MethodName)) ∈ lw_all := lw_g (lw_at lw_m13 138 rfl) rfl
theorem q3245 : (Jvm.Cond.instanceMethod ({ cls := "CodeLayoutModel", name := "leastChain", desc := "(II)I" } : Jvm.MethodName)) ∈ lw_all := lw_g (lw_at lw_m13 140 rfl) rfl
theorem q3246 : (Jvm.Cond.code ({ cls := "CodeLayoutModel", name := "leastChain", desc := "(II)I" } : Jvm.MethodName) prog_16_method_51_code (4 : Nat) (Option.some Jvm.ClassFile.FieldType.int)) ∈ lw_all := lw_g (lw_at lw_m13 141 rfl) rfl
theorem q3247 : (Jvm.Cond.methodLink "CodeLayoutModel" (458 : Nat) ({ cls := "CodeLayoutModel", name := "placeChain", desc := "(IIII)I" } : Jvm.MethodName)) ∈ lw_all := lw_g (lw_at lw_m13 142 rfl) rfl
theorem q3249 : (Jvm.Cond.instanceMethod ({ cls := "CodeLayoutModel", name := "placeChain", desc := "(IIII)I" } : Jvm.MethodName)) ∈ lw_all := lw_g (lw_at lw_m13 144 rfl) rfl
theorem q3250 : (Jvm.Cond.code ({ cls := "CodeLayoutModel", name := "placeChain", desc := "(IIII)I" } : Jvm.MethodName) prog_16_method_53_code (7 : Nat) (Option.some Jvm.ClassFile.FieldType.int)) ∈ lw_all := lw_g (lw_at lw_m13 145 rfl) rfl
theorem q3251 : (Jvm.Cond.methodLink "CodeLayoutModel" (462 : Nat) ({ cls := "CodeLayoutModel", name := "bestChain", desc := "(II)I" } : Jvm.MethodName)) ∈ lw_all := lw_g (lw_at lw_m13 146 rfl) rfl
theorem q3253 : (Jvm.Cond.instanceMethod ({ cls := "CodeLayoutModel", name := "bestChain", desc := "(II)I" } : Jvm.MethodName)) ∈ lw_all := lw_g (lw_at lw_m13 148 rfl) rfl
theorem q3254 : (Jvm.Cond.code ({ cls := "CodeLayoutModel", name := "bestChain", desc := "(II)I" } : Jvm.MethodName) prog_16_method_52_code (6 : Nat) (Option.some Jvm.ClassFile.FieldType.int)) ∈ lw_all := lw_g (lw_at lw_m13 149 rfl) rfl
theorem q3255 : (Jvm.Cond.methodLink "CodeLayoutModel" (465 : Nat) ({ cls := "CodeLayoutModel", name := "rowWeight", desc := "([II)J" } : Jvm.MethodName)) ∈ lw_all := lw_g (lw_at lw_m13 150 rfl) rfl
theorem q3257 : (Jvm.Cond.instanceMethod ({ cls := "CodeLayoutModel", name := "rowWeight", desc := "([II)J" } : Jvm.MethodName)) ∈ lw_all := lw_g (lw_at lw_m13 152 rfl) rfl
theorem q3258 : (Jvm.Cond.code ({ cls := "CodeLayoutModel", name := "rowWeight", desc := "([II)J" } : Jvm.MethodName) prog_16_method_47_code (6 : Nat) (Option.some Jvm.ClassFile.FieldType.long)) ∈ lw_all := lw_g (lw_at lw_m13 153 rfl) rfl
theorem q3259 : (Jvm.Cond.methodLink "CodeLayoutModel" (448 : Nat) ({ cls := "CodeLayoutModel", name := "weightOf", desc := "(II)J" } : Jvm.MethodName)) ∈ lw_all := lw_g (lw_at lw_m13 154 rfl) rfl
theorem q3261 : (Jvm.Cond.instanceMethod ({ cls := "CodeLayoutModel", name := "weightOf", desc := "(II)J" } : Jvm.MethodName)) ∈ lw_all := lw_g (lw_at lw_m13 156 rfl) rfl
theorem q3262 : (Jvm.Cond.code ({ cls := "CodeLayoutModel", name := "weightOf", desc := "(II)J" } : Jvm.MethodName) prog_16_method_46_code (3 : Nat) (Option.some Jvm.ClassFile.FieldType.long)) ∈ lw_all := lw_g (lw_at lw_m13 157 rfl) rfl
theorem q3263 : (Jvm.Cond.methodLink "CodeLayoutModel" (444 : Nat) ({ cls := "CodeLayoutModel", name := "way", desc := "(II)J" } : Jvm.MethodName)) ∈ lw_all := lw_g (lw_at lw_m13 158 rfl) rfl
theorem q3264 : (Jvm.Cond.methodLink "CodeLayoutModel" (515 : Nat) ({ cls := "CodeLayoutModel", name := "write", desc := "()V" } : Jvm.MethodName)) ∈ lw_all := lw_g (lw_at lw_m13 159 rfl) rfl
theorem q3266 : (Jvm.Cond.instanceMethod ({ cls := "CodeLayoutModel", name := "write", desc := "()V" } : Jvm.MethodName)) ∈ lw_all := lw_g (lw_at lw_m13 161 rfl) rfl
theorem q3267 : (Jvm.Cond.code ({ cls := "CodeLayoutModel", name := "write", desc := "()V" } : Jvm.MethodName) prog_16_method_62_code (9 : Nat) (Option.none : Option Jvm.ClassFile.FieldType)) ∈ lw_all := lw_g (lw_at lw_m13 162 rfl) rfl
theorem q3268 : (Jvm.Cond.methodLink "CodeLayoutModel" (533 : Nat) ({ cls := "CodeLayoutModel", name := "store", desc := "(JIJ)V" } : Jvm.MethodName)) ∈ lw_all := lw_g (lw_at lw_m13 163 rfl) rfl
theorem q3270 : (Jvm.Cond.instanceMethod ({ cls := "CodeLayoutModel", name := "store", desc := "(JIJ)V" } : Jvm.MethodName)) ∈ lw_all := lw_g (lw_at lw_m13 165 rfl) rfl
theorem q3271 : (Jvm.Cond.code ({ cls := "CodeLayoutModel", name := "store", desc := "(JIJ)V" } : Jvm.MethodName) prog_16_method_58_code (7 : Nat) (Option.none : Option Jvm.ClassFile.FieldType)) ∈ lw_all := lw_g (lw_at lw_m13 166 rfl) rfl
theorem q3272 : (Jvm.Cond.methodLink "CodeLayoutModel" (537 : Nat) ({ cls := "CodeLayoutModel", name := "newAddress", desc := "(J)J" } : Jvm.MethodName)) ∈ lw_all := lw_g (lw_at lw_m13 167 rfl) rfl
theorem q3274 : (Jvm.Cond.instanceMethod ({ cls := "CodeLayoutModel", name := "newAddress", desc := "(J)J" } : Jvm.MethodName)) ∈ lw_all := lw_g (lw_at lw_m13 169 rfl) rfl
theorem q3275 : (Jvm.Cond.code ({ cls := "CodeLayoutModel", name := "newAddress", desc := "(J)J" } : Jvm.MethodName) prog_16_method_59_code (3 : Nat) (Option.some Jvm.ClassFile.FieldType.long)) ∈ lw_all := lw_g (lw_at lw_m13 170 rfl) rfl
theorem q3276 : (Jvm.Cond.methodLink "CodeLayoutModel" (501 : Nat) ({ cls := "CodeLayoutModel$Written", name := "newWord", desc := "(I)I" } : Jvm.MethodName)) ∈ lw_all := lw_g (lw_at lw_m13 171 rfl) rfl
theorem q3277 : (Jvm.Cond.constantLong "CodeLayoutModel" (540 : Nat) (40 : Int64)) ∈ lw_all := lw_g (lw_at lw_m13 172 rfl) rfl
theorem q3278 : (Jvm.Cond.constantLong "CodeLayoutModel" (548 : Nat) (32 : Int64)) ∈ lw_all := lw_g (lw_at lw_m13 173 rfl) rfl
theorem q3279 : (Jvm.Cond.methodLink "CodeLayoutModel" (550 : Nat) ({ cls := "CodeLayoutModel$Heads", name := "isOfText", desc := "(I)Z" } : Jvm.MethodName)) ∈ lw_all := lw_g (lw_at lw_m13 174 rfl) rfl
theorem q3280 : (Jvm.Cond.methodLink "CodeLayoutModel" (553 : Nat) ({ cls := "CodeLayoutModel", name := "newSize", desc := "(I)I" } : Jvm.MethodName)) ∈ lw_all := lw_g (lw_at lw_m13 175 rfl) rfl
theorem q3282 : (Jvm.Cond.instanceMethod ({ cls := "CodeLayoutModel", name := "newSize", desc := "(I)I" } : Jvm.MethodName)) ∈ lw_all := lw_g (lw_at lw_m13 177 rfl) rfl
theorem q3283 : (Jvm.Cond.code ({ cls := "CodeLayoutModel", name := "newSize", desc := "(I)I" } : Jvm.MethodName) prog_16_method_63_code (6 : Nat) (Option.some Jvm.ClassFile.FieldType.int)) ∈ lw_all := lw_g (lw_at lw_m13 178 rfl) rfl
theorem q3284 : (Jvm.Cond.methodLink "CodeLayoutModel" (560 : Nat) ({ cls := "CodeLayoutModel", name := "isInHot", desc := "(I)Z" } : Jvm.MethodName)) ∈ lw_all := lw_g (lw_at lw_m13 179 rfl) rfl
theorem q3286 : (Jvm.Cond.instanceMethod ({ cls := "CodeLayoutModel", name := "isInHot", desc := "(I)Z" } : Jvm.MethodName)) ∈ lw_all := lw_g (lw_at lw_m13 181 rfl) rfl
theorem q3287 : (Jvm.Cond.code ({ cls := "CodeLayoutModel", name := "isInHot", desc := "(I)Z" } : Jvm.MethodName) prog_16_method_64_code (2 : Nat) (Option.some Jvm.ClassFile.FieldType.boolean)) ∈ lw_all := lw_g (lw_at lw_m13 182 rfl) rfl
theorem q3288 : (Jvm.Cond.methodLink "CodeLayoutModel" (556 : Nat) ({ cls := "CodeLayoutModel", name := "writeFix", desc := "(IJ)V" } : Jvm.MethodName)) ∈ lw_all := lw_g (lw_at lw_m13 183 rfl) rfl
theorem q3290 : (Jvm.Cond.instanceMethod ({ cls := "CodeLayoutModel", name := "writeFix", desc := "(IJ)V" } : Jvm.MethodName)) ∈ lw_all := lw_g (lw_at lw_m13 185 rfl) rfl
theorem q3291 : (Jvm.Cond.code ({ cls := "CodeLayoutModel", name := "writeFix", desc := "(IJ)V" } : Jvm.MethodName) prog_16_method_65_code (16 : Nat) (Option.none : Option Jvm.ClassFile.FieldType)) ∈ lw_all := lw_g (lw_at lw_m13 186 rfl) rfl
theorem q3292 : (Jvm.Cond.methodLink "CodeLayoutModel" (563 : Nat) ({ cls := "CodeLayoutModel$Written", name := "isGone", desc := "(I)Z" } : Jvm.MethodName)) ∈ lw_all := lw_g (lw_at lw_m13 187 rfl) rfl
theorem q3293 : (Jvm.Cond.instanceMethod ({ cls := "CodeLayoutModel$Written", name := "isGone", desc := "(I)Z" } : Jvm.MethodName)) ∈ lw_all := lw_g (lw_at lw_m13 188 rfl) rfl
theorem q3294 : (Jvm.Cond.selects "CodeLayoutModel$Written" ({ cls := "CodeLayoutModel$Written", name := "isGone", desc := "(I)Z" } : Jvm.MethodName) ({ cls := "CodeLayoutModel$Written", name := "isGone", desc := "(I)Z" } : Jvm.MethodName)) ∈ lw_all := lw_g (lw_at lw_m13 189 rfl) rfl
theorem q3295 : (Jvm.Cond.code ({ cls := "CodeLayoutModel$Written", name := "isGone", desc := "(I)Z" } : Jvm.MethodName) prog_19_method_12_code (2 : Nat) (Option.some Jvm.ClassFile.FieldType.boolean)) ∈ lw_all := lw_g (lw_at lw_m13 190 rfl) rfl
theorem q3296 : (Jvm.Cond.methodLink "CodeLayoutLaw" (69 : Nat) ({ cls := "CodeLayoutModel", name := "order", desc := "(I)I" } : Jvm.MethodName)) ∈ lw_all := lw_g (lw_at lw_m13 191 rfl) rfl
theorem q3297 : (Jvm.Cond.instanceMethod ({ cls := "CodeLayoutModel", name := "order", desc := "(I)I" } : Jvm.MethodName)) ∈ lw_all := lw_g (lw_at lw_m13 192 rfl) rfl
theorem q3298 : (Jvm.Cond.selects "CodeLayoutModel" ({ cls := "CodeLayoutModel", name := "order", desc := "(I)I" } : Jvm.MethodName) ({ cls := "CodeLayoutModel", name := "order", desc := "(I)I" } : Jvm.MethodName)) ∈ lw_all := lw_g (lw_at lw_m13 193 rfl) rfl
theorem q3299 : (Jvm.Cond.code ({ cls := "CodeLayoutModel", name := "order", desc := "(I)I" } : Jvm.MethodName) prog_16_method_66_code (2 : Nat) (Option.some Jvm.ClassFile.FieldType.int)) ∈ lw_all := lw_g (lw_at lw_m13 194 rfl) rfl
theorem q3300 : (Jvm.Cond.methodLink "CodeLayoutLaw" (73 : Nat) ({ cls := "CodeLayoutModel", name := "laid", desc := "(I)I" } : Jvm.MethodName)) ∈ lw_all := lw_g (lw_at lw_m13 195 rfl) rfl
theorem q3301 : (Jvm.Cond.instanceMethod ({ cls := "CodeLayoutModel", name := "laid", desc := "(I)I" } : Jvm.MethodName)) ∈ lw_all := lw_g (lw_at lw_m13 196 rfl) rfl
theorem q3302 : (Jvm.Cond.selects "CodeLayoutModel" ({ cls := "CodeLayoutModel", name := "laid", desc := "(I)I" } : Jvm.MethodName) ({ cls := "CodeLayoutModel", name := "laid", desc := "(I)I" } : Jvm.MethodName)) ∈ lw_all := lw_g (lw_at lw_m13 197 rfl) rfl
theorem q3303 : (Jvm.Cond.code ({ cls := "CodeLayoutModel", name := "laid", desc := "(I)I" } : Jvm.MethodName) prog_16_method_67_code (2 : Nat) (Option.some Jvm.ClassFile.FieldType.int)) ∈ lw_all := lw_g (lw_at lw_m13 198 rfl) rfl
theorem q3304 : (Jvm.Cond.methodLink "CodeLayoutLaw" (77 : Nat) ({ cls := "CodeLayoutModel", name := "weight", desc := "(II)J" } : Jvm.MethodName)) ∈ lw_all := lw_g (lw_at lw_m13 199 rfl) rfl
theorem q3305 : (Jvm.Cond.instanceMethod ({ cls := "CodeLayoutModel", name := "weight", desc := "(II)J" } : Jvm.MethodName)) ∈ lw_all := lw_g (lw_at lw_m13 200 rfl) rfl
theorem q3306 : (Jvm.Cond.selects "CodeLayoutModel" ({ cls := "CodeLayoutModel", name := "weight", desc := "(II)J" } : Jvm.MethodName) ({ cls := "CodeLayoutModel", name := "weight", desc := "(II)J" } : Jvm.MethodName)) ∈ lw_all := lw_g (lw_at lw_m13 201 rfl) rfl
theorem q3307 : (Jvm.Cond.code ({ cls := "CodeLayoutModel", name := "weight", desc := "(II)J" } : Jvm.MethodName) prog_16_method_68_code (3 : Nat) (Option.some Jvm.ClassFile.FieldType.long)) ∈ lw_all := lw_g (lw_at lw_m13 202 rfl) rfl
theorem q3308 : (Jvm.Cond.methodLink "CodeLayoutLaw" (82 : Nat) ({ cls := "CodeLayoutModel", name := "moved", desc := "(J)J" } : Jvm.MethodName)) ∈ lw_all := lw_g (lw_at lw_m13 203 rfl) rfl
theorem q3309 : (Jvm.Cond.instanceMethod ({ cls := "CodeLayoutModel", name := "moved", desc := "(J)J" } : Jvm.MethodName)) ∈ lw_all := lw_g (lw_at lw_m13 204 rfl) rfl
theorem q3310 : (Jvm.Cond.selects "CodeLayoutModel" ({ cls := "CodeLayoutModel", name := "moved", desc := "(J)J" } : Jvm.MethodName) ({ cls := "CodeLayoutModel", name := "moved", desc := "(J)J" } : Jvm.MethodName)) ∈ lw_all := lw_g (lw_at lw_m13 205 rfl) rfl
theorem q3311 : (Jvm.Cond.code ({ cls := "CodeLayoutModel", name := "moved", desc := "(J)J" } : Jvm.MethodName) prog_16_method_69_code (4 : Nat) (Option.some Jvm.ClassFile.FieldType.long)) ∈ lw_all := lw_g (lw_at lw_m13 206 rfl) rfl
theorem q3312 : (Jvm.Cond.methodLink "CodeLayoutLaw" (86 : Nat) ({ cls := "CodeLayoutModel", name := "size", desc := "()I" } : Jvm.MethodName)) ∈ lw_all := lw_g (lw_at lw_m13 207 rfl) rfl
theorem q3313 : (Jvm.Cond.instanceMethod ({ cls := "CodeLayoutModel", name := "size", desc := "()I" } : Jvm.MethodName)) ∈ lw_all := lw_g (lw_at lw_m13 208 rfl) rfl
theorem q3314 : (Jvm.Cond.selects "CodeLayoutModel" ({ cls := "CodeLayoutModel", name := "size", desc := "()I" } : Jvm.MethodName) ({ cls := "CodeLayoutModel", name := "size", desc := "()I" } : Jvm.MethodName)) ∈ lw_all := lw_g (lw_at lw_m13 209 rfl) rfl
theorem q3315 : (Jvm.Cond.code ({ cls := "CodeLayoutModel", name := "size", desc := "()I" } : Jvm.MethodName) prog_16_method_70_code (1 : Nat) (Option.some Jvm.ClassFile.FieldType.int)) ∈ lw_all := lw_g (lw_at lw_m13 210 rfl) rfl
theorem q3316 : (Jvm.Cond.methodLink "CodeLayoutLaw" (90 : Nat) ({ cls := "CodeLayoutModel", name := "out", desc := "(I)I" } : Jvm.MethodName)) ∈ lw_all := lw_g (lw_at lw_m13 211 rfl) rfl
theorem q3317 : (Jvm.Cond.instanceMethod ({ cls := "CodeLayoutModel", name := "out", desc := "(I)I" } : Jvm.MethodName)) ∈ lw_all := lw_g (lw_at lw_m13 212 rfl) rfl
theorem q3318 : (Jvm.Cond.selects "CodeLayoutModel" ({ cls := "CodeLayoutModel", name := "out", desc := "(I)I" } : Jvm.MethodName) ({ cls := "CodeLayoutModel", name := "out", desc := "(I)I" } : Jvm.MethodName)) ∈ lw_all := lw_g (lw_at lw_m13 213 rfl) rfl
theorem q3319 : (Jvm.Cond.code ({ cls := "CodeLayoutModel", name := "out", desc := "(I)I" } : Jvm.MethodName) prog_16_method_71_code (2 : Nat) (Option.some Jvm.ClassFile.FieldType.int)) ∈ lw_all := lw_g (lw_at lw_m13 214 rfl) rfl
theorem q3320 : (Jvm.Cond.methodLink "CodeLayoutLaw" (94 : Nat) ({ cls := "CodeLayoutModel", name := "check", desc := "()I" } : Jvm.MethodName)) ∈ lw_all := lw_g (lw_at lw_m13 215 rfl) rfl
theorem q3321 : (Jvm.Cond.instanceMethod ({ cls := "CodeLayoutModel", name := "check", desc := "()I" } : Jvm.MethodName)) ∈ lw_all := lw_g (lw_at lw_m13 216 rfl) rfl
theorem q3322 : (Jvm.Cond.selects "CodeLayoutModel" ({ cls := "CodeLayoutModel", name := "check", desc := "()I" } : Jvm.MethodName) ({ cls := "CodeLayoutModel", name := "check", desc := "()I" } : Jvm.MethodName)) ∈ lw_all := lw_g (lw_at lw_m13 217 rfl) rfl
theorem q3323 : (Jvm.Cond.code ({ cls := "CodeLayoutModel", name := "check", desc := "()I" } : Jvm.MethodName) prog_16_method_72_code (1 : Nat) (Option.some Jvm.ClassFile.FieldType.int)) ∈ lw_all := lw_g (lw_at lw_m13 218 rfl) rfl
theorem q3324 : (Jvm.Cond.methodLink "CodeLayoutLaw" (151 : Nat) ({ cls := "CodeLayoutModel", name := "strays", desc := "()I" } : Jvm.MethodName)) ∈ lw_all := lw_g (lw_at lw_m13 219 rfl) rfl
theorem q3325 : (Jvm.Cond.instanceMethod ({ cls := "CodeLayoutModel", name := "strays", desc := "()I" } : Jvm.MethodName)) ∈ lw_all := lw_g (lw_at lw_m13 220 rfl) rfl
theorem q3326 : (Jvm.Cond.selects "CodeLayoutModel" ({ cls := "CodeLayoutModel", name := "strays", desc := "()I" } : Jvm.MethodName) ({ cls := "CodeLayoutModel", name := "strays", desc := "()I" } : Jvm.MethodName)) ∈ lw_all := lw_g (lw_at lw_m13 221 rfl) rfl
theorem q3327 : (Jvm.Cond.code ({ cls := "CodeLayoutModel", name := "strays", desc := "()I" } : Jvm.MethodName) prog_16_method_73_code (1 : Nat) (Option.some Jvm.ClassFile.FieldType.int)) ∈ lw_all := lw_g (lw_at lw_m13 222 rfl) rfl
theorem q3328 : (Jvm.Cond.methodLink "CodeLayoutLaw" (103 : Nat) ({ cls := "CodeLayoutModel", name := "run", desc := "(II)I" } : Jvm.MethodName)) ∈ lw_all := lw_g (lw_at lw_m13 223 rfl) rfl
theorem q3329 : (Jvm.Cond.instanceMethod ({ cls := "CodeLayoutModel", name := "run", desc := "(II)I" } : Jvm.MethodName)) ∈ lw_all := lw_g (lw_at lw_m13 224 rfl) rfl
theorem q3330 : (Jvm.Cond.selects "CodeLayoutModel" ({ cls := "CodeLayoutModel", name := "run", desc := "(II)I" } : Jvm.MethodName) ({ cls := "CodeLayoutModel", name := "run", desc := "(II)I" } : Jvm.MethodName)) ∈ lw_all := lw_g (lw_at lw_m13 225 rfl) rfl
theorem q3331 : (Jvm.Cond.code ({ cls := "CodeLayoutModel", name := "run", desc := "(II)I" } : Jvm.MethodName) prog_16_method_80_code (3 : Nat) (Option.some Jvm.ClassFile.FieldType.int)) ∈ lw_all := lw_g (lw_at lw_m13 226 rfl) rfl
theorem q3332 : (Jvm.Cond.methodLink "CodeLayoutModel" (587 : Nat) ({ cls := "CodeLayoutModel", name := "runOf", desc := "(I)LCodeLayoutModel$Run;" } : Jvm.MethodName)) ∈ lw_all := lw_g (lw_at lw_m13 227 rfl) rfl
theorem q3334 : (Jvm.Cond.instanceMethod ({ cls := "CodeLayoutModel", name := "runOf", desc := "(I)LCodeLayoutModel$Run;" } : Jvm.MethodName)) ∈ lw_all := lw_g (lw_at lw_m13 229 rfl) rfl
theorem q3335 : (Jvm.Cond.code ({ cls := "CodeLayoutModel", name := "runOf", desc := "(I)LCodeLayoutModel$Run;" } : Jvm.MethodName) prog_16_method_78_code (2 : Nat) (Option.some (Jvm.ClassFile.FieldType.object "CodeLayoutModel$Run"))) ∈ lw_all := lw_g (lw_at lw_m13 230 rfl) rfl
theorem q3336 : (Jvm.Cond.methodLink "CodeLayoutModel" (591 : Nat) ({ cls := "CodeLayoutModel$Run", name := "go", desc := "(I)I" } : Jvm.MethodName)) ∈ lw_all := lw_g (lw_at lw_m13 231 rfl) rfl
theorem q3337 : (Jvm.Cond.instanceMethod ({ cls := "CodeLayoutModel$Run", name := "go", desc := "(I)I" } : Jvm.MethodName)) ∈ lw_all := lw_g (lw_at lw_m13 232 rfl) rfl
theorem q3338 : (Jvm.Cond.selects "CodeLayoutModel$Run" ({ cls := "CodeLayoutModel$Run", name := "go", desc := "(I)I" } : Jvm.MethodName) ({ cls := "CodeLayoutModel$Run", name := "go", desc := "(I)I" } : Jvm.MethodName)) ∈ lw_all := lw_g (lw_at lw_m13 233 rfl) rfl
theorem q3339 : (Jvm.Cond.code ({ cls := "CodeLayoutModel$Run", name := "go", desc := "(I)I" } : Jvm.MethodName) prog_18_method_2_code (3 : Nat) (Option.some Jvm.ClassFile.FieldType.int)) ∈ lw_all := lw_g (lw_at lw_m13 234 rfl) rfl
theorem q3340 : (Jvm.Cond.constantLong "CodeLayoutModel$Run" (54 : Nat) (2147483648 : Int64)) ∈ lw_all := lw_g (lw_at lw_m13 235 rfl) rfl
theorem q3341 : (Jvm.Cond.methodLink "CodeLayoutModel$Run" (74 : Nat) ({ cls := "CodeLayoutModel$Run", name := "prepare", desc := "()V" } : Jvm.MethodName)) ∈ lw_all := lw_g (lw_at lw_m13 236 rfl) rfl
theorem q3343 : (Jvm.Cond.instanceMethod ({ cls := "CodeLayoutModel$Run", name := "prepare", desc := "()V" } : Jvm.MethodName)) ∈ lw_all := lw_g (lw_at lw_m13 238 rfl) rfl
theorem q3344 : (Jvm.Cond.code ({ cls := "CodeLayoutModel$Run", name := "prepare", desc := "()V" } : Jvm.MethodName) prog_18_method_3_code (6 : Nat) (Option.none : Option Jvm.ClassFile.FieldType)) ∈ lw_all := lw_g (lw_at lw_m13 239 rfl) rfl
theorem q3345 : (Jvm.Cond.methodLink "CodeLayoutModel$Run" (124 : Nat) ({ cls := "CodeLayoutModel$Heads", name := "what", desc := "(I)I" } : Jvm.MethodName)) ∈ lw_all := lw_g (lw_at lw_m14 0 rfl) rfl
theorem q3346 : (Jvm.Cond.methodLink "CodeLayoutModel$Run" (128 : Nat) ({ cls := "CodeLayoutModel$Heads", name := "aim", desc := "(I)I" } : Jvm.MethodName)) ∈ lw_all := lw_g (lw_at lw_m14 1 rfl) rfl
theorem q3347 : (Jvm.Cond.methodLinkNest "CodeLayoutModel$Run" (138 : Nat) ({ cls := "CodeLayoutModel", name := "fixType", desc := "(J)I" } : Jvm.MethodName) "CodeLayoutModel") ∈ lw_tbl := lw_at lw_m14 2 rfl
theorem q3348 : (Jvm.Cond.methodLinkNest "CodeLayoutModel$Run" (142 : Nat) ({ cls := "CodeLayoutModel", name := "target", desc := "(J)J" } : Jvm.MethodName) "CodeLayoutModel") ∈ lw_tbl := lw_at lw_m14 3 rfl
theorem q3349 : (Jvm.Cond.methodLink "CodeLayoutModel$Run" (145 : Nat) ({ cls := "CodeLayoutModel$Heads", name := "isIn", desc := "(J)Z" } : Jvm.MethodName)) ∈ lw_all := lw_g (lw_at lw_m14 4 rfl) rfl
theorem q3350 : (Jvm.Cond.methodLink "CodeLayoutModel$Run" (101 : Nat) ({ cls := "CodeLayoutModel$Heads", name := "num", desc := "(JI)J" } : Jvm.MethodName)) ∈ lw_all := lw_g (lw_at lw_m14 5 rfl) rfl
theorem q3351 : (Jvm.Cond.methodLinkNest "CodeLayoutModel$Run" (111 : Nat) ({ cls := "CodeLayoutModel", name := "newAddress", desc := "(J)J" } : Jvm.MethodName) "CodeLayoutModel") ∈ lw_tbl := lw_at lw_m14 6 rfl
theorem q3352 : (Jvm.Cond.methodLink "CodeLayoutModel$Run" (152 : Nat) ({ cls := "CodeLayoutModel$Run", name := "put", desc := "(IIJ)V" } : Jvm.MethodName)) ∈ lw_all := lw_g (lw_at lw_m14 7 rfl) rfl
theorem q3354 : (Jvm.Cond.instanceMethod ({ cls := "CodeLayoutModel$Run", name := "put", desc := "(IIJ)V" } : Jvm.MethodName)) ∈ lw_all := lw_g (lw_at lw_m14 9 rfl) rfl
theorem q3355 : (Jvm.Cond.code ({ cls := "CodeLayoutModel$Run", name := "put", desc := "(IIJ)V" } : Jvm.MethodName) prog_18_method_4_code (6 : Nat) (Option.none : Option Jvm.ClassFile.FieldType)) ∈ lw_all := lw_g (lw_at lw_m14 10 rfl) rfl
theorem q3356 : (Jvm.Cond.constantLong "CodeLayoutModel$Run" (99 : Nat) (24 : Int64)) ∈ lw_all := lw_g (lw_at lw_m14 11 rfl) rfl
theorem q3357 : (Jvm.Cond.methodLink "CodeLayoutModel$Run" (118 : Nat) ({ cls := "CodeLayoutModel$Run", name := "step", desc := "()V" } : Jvm.MethodName)) ∈ lw_all := lw_g (lw_at lw_m14 12 rfl) rfl
theorem q3359 : (Jvm.Cond.instanceMethod ({ cls := "CodeLayoutModel$Run", name := "step", desc := "()V" } : Jvm.MethodName)) ∈ lw_all := lw_g (lw_at lw_m14 14 rfl) rfl
theorem q3360 : (Jvm.Cond.code ({ cls := "CodeLayoutModel$Run", name := "step", desc := "()V" } : Jvm.MethodName) prog_18_method_28_code (4 : Nat) (Option.none : Option Jvm.ClassFile.FieldType)) ∈ lw_all := lw_g (lw_at lw_m14 15 rfl) rfl
theorem q3361 : (Jvm.Cond.methodLink "CodeLayoutModel$Run" (224 : Nat) ({ cls := "CodeLayoutModel$Run", name := "inText", desc := "(JI)J" } : Jvm.MethodName)) ∈ lw_all := lw_g (lw_at lw_m14 16 rfl) rfl
theorem q3363 : (Jvm.Cond.instanceMethod ({ cls := "CodeLayoutModel$Run", name := "inText", desc := "(JI)J" } : Jvm.MethodName)) ∈ lw_all := lw_g (lw_at lw_m14 18 rfl) rfl
theorem q3364 : (Jvm.Cond.code ({ cls := "CodeLayoutModel$Run", name := "inText", desc := "(JI)J" } : Jvm.MethodName) prog_18_method_9_code (4 : Nat) (Option.some Jvm.ClassFile.FieldType.long)) ∈ lw_all := lw_g (lw_at lw_m14 19 rfl) rfl
theorem q3365 : (Jvm.Cond.constantLong "CodeLayoutModel$Run" (192 : Nat) (4 : Int64)) ∈ lw_all := lw_g (lw_at lw_m14 20 rfl) rfl
theorem q3366 : (Jvm.Cond.methodLink "CodeLayoutModel$Run" (194 : Nat) ({ cls := "CodeLayoutModel$Run", name := "textWords", desc := "()I" } : Jvm.MethodName)) ∈ lw_all := lw_g (lw_at lw_m14 21 rfl) rfl
theorem q3368 : (Jvm.Cond.instanceMethod ({ cls := "CodeLayoutModel$Run", name := "textWords", desc := "()I" } : Jvm.MethodName)) ∈ lw_all := lw_g (lw_at lw_m14 23 rfl) rfl
theorem q3369 : (Jvm.Cond.code ({ cls := "CodeLayoutModel$Run", name := "textWords", desc := "()I" } : Jvm.MethodName) prog_18_method_8_code (1 : Nat) (Option.some Jvm.ClassFile.FieldType.int)) ∈ lw_all := lw_g (lw_at lw_m14 24 rfl) rfl
theorem q3370 : (Jvm.Cond.constantLong "CodeLayoutModel$Run" (198 : Nat) (-1 : Int64)) ∈ lw_all := lw_g (lw_at lw_m14 25 rfl) rfl
theorem q3371 : (Jvm.Cond.constantLong "CodeLayoutModel$Run" (254 : Nat) (3 : Int64)) ∈ lw_all := lw_g (lw_at lw_m14 26 rfl) rfl
theorem q3372 : (Jvm.Cond.methodLinkNest "CodeLayoutModel$Run" (256 : Nat) ({ cls := "CodeLayoutModel", name := "blockAtNew", desc := "(I)I" } : Jvm.MethodName) "CodeLayoutModel") ∈ lw_tbl := lw_at lw_m14 27 rfl
theorem q3374 : (Jvm.Cond.instanceMethod ({ cls := "CodeLayoutModel", name := "blockAtNew", desc := "(I)I" } : Jvm.MethodName)) ∈ lw_all := lw_g (lw_at lw_m14 29 rfl) rfl
theorem q3375 : (Jvm.Cond.code ({ cls := "CodeLayoutModel", name := "blockAtNew", desc := "(I)I" } : Jvm.MethodName) prog_16_method_76_code (3 : Nat) (Option.some Jvm.ClassFile.FieldType.int)) ∈ lw_all := lw_g (lw_at lw_m14 30 rfl) rfl
theorem q3376 : (Jvm.Cond.methodLink "CodeLayoutModel" (581 : Nat) ({ cls := "CodeLayoutModel", name := "blockUnder", desc := "(I)I" } : Jvm.MethodName)) ∈ lw_all := lw_g (lw_at lw_m14 31 rfl) rfl
theorem q3378 : (Jvm.Cond.instanceMethod ({ cls := "CodeLayoutModel", name := "blockUnder", desc := "(I)I" } : Jvm.MethodName)) ∈ lw_all := lw_g (lw_at lw_m14 33 rfl) rfl
theorem q3379 : (Jvm.Cond.code ({ cls := "CodeLayoutModel", name := "blockUnder", desc := "(I)I" } : Jvm.MethodName) prog_16_method_75_code (5 : Nat) (Option.some Jvm.ClassFile.FieldType.int)) ∈ lw_all := lw_g (lw_at lw_m14 34 rfl) rfl
theorem q3380 : (Jvm.Cond.methodLink "CodeLayoutModel$Run" (265 : Nat) ({ cls := "CodeLayoutModel$Run", name := "runOne", desc := "(J)V" } : Jvm.MethodName)) ∈ lw_all := lw_g (lw_at lw_m14 35 rfl) rfl
theorem q3382 : (Jvm.Cond.instanceMethod ({ cls := "CodeLayoutModel$Run", name := "runOne", desc := "(J)V" } : Jvm.MethodName)) ∈ lw_all := lw_g (lw_at lw_m14 37 rfl) rfl
theorem q3383 : (Jvm.Cond.code ({ cls := "CodeLayoutModel$Run", name := "runOne", desc := "(J)V" } : Jvm.MethodName) prog_18_method_29_code (6 : Nat) (Option.none : Option Jvm.ClassFile.FieldType)) ∈ lw_all := lw_g (lw_at lw_m14 38 rfl) rfl
theorem q3384 : (Jvm.Cond.methodLinkNest "CodeLayoutModel$Run" (269 : Nat) ({ cls := "CodeLayoutModel", name := "newWordAt", desc := "(I)I" } : Jvm.MethodName) "CodeLayoutModel") ∈ lw_tbl := lw_at lw_m14 39 rfl
theorem q3386 : (Jvm.Cond.instanceMethod ({ cls := "CodeLayoutModel", name := "newWordAt", desc := "(I)I" } : Jvm.MethodName)) ∈ lw_all := lw_g (lw_at lw_m14 41 rfl) rfl
theorem q3387 : (Jvm.Cond.code ({ cls := "CodeLayoutModel", name := "newWordAt", desc := "(I)I" } : Jvm.MethodName) prog_16_method_77_code (4 : Nat) (Option.some Jvm.ClassFile.FieldType.int)) ∈ lw_all := lw_g (lw_at lw_m14 42 rfl) rfl
theorem q3388 : (Jvm.Cond.methodLinkNest "CodeLayoutModel$Run" (275 : Nat) ({ cls := "CodeLayoutModel", name := "sort", desc := "(I)I" } : Jvm.MethodName) "CodeLayoutModel") ∈ lw_tbl := lw_at lw_m14 43 rfl
theorem q3389 : (Jvm.Cond.methodLink "CodeLayoutModel$Run" (278 : Nat) ({ cls := "CodeLayoutModel$Run", name := "work", desc := "(III)I" } : Jvm.MethodName)) ∈ lw_all := lw_g (lw_at lw_m14 44 rfl) rfl
theorem q3391 : (Jvm.Cond.instanceMethod ({ cls := "CodeLayoutModel$Run", name := "work", desc := "(III)I" } : Jvm.MethodName)) ∈ lw_all := lw_g (lw_at lw_m14 46 rfl) rfl
theorem q3392 : (Jvm.Cond.code ({ cls := "CodeLayoutModel$Run", name := "work", desc := "(III)I" } : Jvm.MethodName) prog_18_method_30_code (14 : Nat) (Option.some Jvm.ClassFile.FieldType.int)) ∈ lw_all := lw_g (lw_at lw_m14 47 rfl) rfl
theorem q3393 : (Jvm.Cond.methodLinkNest "CodeLayoutModel$Run" (285 : Nat) ({ cls := "CodeLayoutModel", name := "bits", desc := "(III)I" } : Jvm.MethodName) "CodeLayoutModel") ∈ lw_tbl := lw_at lw_m14 48 rfl
theorem q3394 : (Jvm.Cond.methodLink "CodeLayoutModel$Run" (288 : Nat) ({ cls := "CodeLayoutModel$Run", name := "addNumber", desc := "(IIII)I" } : Jvm.MethodName)) ∈ lw_all := lw_g (lw_at lw_m14 49 rfl) rfl
theorem q3396 : (Jvm.Cond.instanceMethod ({ cls := "CodeLayoutModel$Run", name := "addNumber", desc := "(IIII)I" } : Jvm.MethodName)) ∈ lw_all := lw_g (lw_at lw_m14 51 rfl) rfl
theorem q3397 : (Jvm.Cond.code ({ cls := "CodeLayoutModel$Run", name := "addNumber", desc := "(IIII)I" } : Jvm.MethodName) prog_18_method_31_code (14 : Nat) (Option.some Jvm.ClassFile.FieldType.int)) ∈ lw_all := lw_g (lw_at lw_m14 52 rfl) rfl
theorem q3398 : (Jvm.Cond.methodLink "CodeLayoutModel$Run" (339 : Nat) ({ cls := "CodeLayoutModel$Run", name := "make", desc := "(IIIJ)V" } : Jvm.MethodName)) ∈ lw_all := lw_g (lw_at lw_m14 53 rfl) rfl
theorem q3400 : (Jvm.Cond.instanceMethod ({ cls := "CodeLayoutModel$Run", name := "make", desc := "(IIIJ)V" } : Jvm.MethodName)) ∈ lw_all := lw_g (lw_at lw_m14 55 rfl) rfl
theorem q3401 : (Jvm.Cond.code ({ cls := "CodeLayoutModel$Run", name := "make", desc := "(IIIJ)V" } : Jvm.MethodName) prog_18_method_24_code (6 : Nat) (Option.none : Option Jvm.ClassFile.FieldType)) ∈ lw_all := lw_g (lw_at lw_m14 56 rfl) rfl
theorem q3402 : (Jvm.Cond.methodLink "CodeLayoutModel$Run" (343 : Nat) ({ cls := "CodeLayoutModel$Run", name := "isCodeOrStack", desc := "(I)Z" } : Jvm.MethodName)) ∈ lw_all := lw_g (lw_at lw_m14 57 rfl) rfl
theorem q3404 : (Jvm.Cond.instanceMethod ({ cls := "CodeLayoutModel$Run", name := "isCodeOrStack", desc := "(I)Z" } : Jvm.MethodName)) ∈ lw_all := lw_g (lw_at lw_m14 59 rfl) rfl
theorem q3405 : (Jvm.Cond.code ({ cls := "CodeLayoutModel$Run", name := "isCodeOrStack", desc := "(I)Z" } : Jvm.MethodName) prog_18_method_23_code (2 : Nat) (Option.some Jvm.ClassFile.FieldType.boolean)) ∈ lw_all := lw_g (lw_at lw_m14 60 rfl) rfl
theorem q3406 : (Jvm.Cond.constantLong "CodeLayoutModel$Run" (248 : Nat) (4294967295 : Int64)) ∈ lw_all := lw_g (lw_at lw_m14 61 rfl) rfl
theorem q3407 : (Jvm.Cond.methodLink "CodeLayoutModel$Run" (304 : Nat) ({ cls := "CodeLayoutModel$Run", name := "sum", desc := "(JJZZZ)J" } : Jvm.MethodName)) ∈ lw_all := lw_g (lw_at lw_m14 62 rfl) rfl
theorem q3409 : (Jvm.Cond.instanceMethod ({ cls := "CodeLayoutModel$Run", name := "sum", desc := "(JJZZZ)J" } : Jvm.MethodName)) ∈ lw_all := lw_g (lw_at lw_m14 64 rfl) rfl
theorem q3410 : (Jvm.Cond.code ({ cls := "CodeLayoutModel$Run", name := "sum", desc := "(JJZZZ)J" } : Jvm.MethodName) prog_18_method_27_code (16 : Nat) (Option.some Jvm.ClassFile.FieldType.long)) ∈ lw_all := lw_g (lw_at lw_m14 65 rfl) rfl
theorem q3411 : (Jvm.Cond.methodLink "CodeLayoutModel$Run" (250 : Nat) ({ cls := "CodeLayoutModel$Run", name := "below", desc := "(JJ)Z" } : Jvm.MethodName)) ∈ lw_all := lw_g (lw_at lw_m14 66 rfl) rfl
theorem q3412 : (Jvm.Cond.static ({ cls := "CodeLayoutModel$Run", name := "below", desc := "(JJ)Z" } : Jvm.MethodName)) ∈ lw_all := lw_g (lw_at lw_m14 67 rfl) rfl
theorem q3413 : (Jvm.Cond.code ({ cls := "CodeLayoutModel$Run", name := "below", desc := "(JJ)Z" } : Jvm.MethodName) prog_18_method_26_code (4 : Nat) (Option.some Jvm.ClassFile.FieldType.boolean)) ∈ lw_all := lw_g (lw_at lw_m14 68 rfl) rfl
theorem q3414 : (Jvm.Cond.constantLong "CodeLayoutModel$Run" (246 : Nat) (-9223372036854775808 : Int64)) ∈ lw_all := lw_g (lw_at lw_m14 69 rfl) rfl
theorem q3415 : (Jvm.Cond.methodLink "CodeLayoutModel$Run" (292 : Nat) ({ cls := "CodeLayoutModel$Run", name := "isCode", desc := "(I)Z" } : Jvm.MethodName)) ∈ lw_all := lw_g (lw_at lw_m14 70 rfl) rfl
theorem q3417 : (Jvm.Cond.instanceMethod ({ cls := "CodeLayoutModel$Run", name := "isCode", desc := "(I)Z" } : Jvm.MethodName)) ∈ lw_all := lw_g (lw_at lw_m14 72 rfl) rfl
theorem q3418 : (Jvm.Cond.code ({ cls := "CodeLayoutModel$Run", name := "isCode", desc := "(I)Z" } : Jvm.MethodName) prog_18_method_22_code (2 : Nat) (Option.some Jvm.ClassFile.FieldType.boolean)) ∈ lw_all := lw_g (lw_at lw_m14 73 rfl) rfl
theorem q3419 : (Jvm.Cond.methodLink "CodeLayoutModel$Run" (296 : Nat) ({ cls := "CodeLayoutModel$Run", name := "\x72", desc := "(I)J" } : Jvm.MethodName)) ∈ lw_all := lw_g (lw_at lw_m14 74 rfl) rfl
theorem q3421 : (Jvm.Cond.instanceMethod ({ cls := "CodeLayoutModel$Run", name := "\x72", desc := "(I)J" } : Jvm.MethodName)) ∈ lw_all := lw_g (lw_at lw_m14 76 rfl) rfl
theorem q3422 : (Jvm.Cond.code ({ cls := "CodeLayoutModel$Run", name := "\x72", desc := "(I)J" } : Jvm.MethodName) prog_18_method_20_code (2 : Nat) (Option.some Jvm.ClassFile.FieldType.long)) ∈ lw_all := lw_g (lw_at lw_m14 77 rfl) rfl
theorem q3423 : (Jvm.Cond.methodLink "CodeLayoutModel$Run" (300 : Nat) ({ cls := "CodeLayoutModel$Run", name := "shifted", desc := "(IJ)J" } : Jvm.MethodName)) ∈ lw_all := lw_g (lw_at lw_m14 78 rfl) rfl
theorem q3425 : (Jvm.Cond.instanceMethod ({ cls := "CodeLayoutModel$Run", name := "shifted", desc := "(IJ)J" } : Jvm.MethodName)) ∈ lw_all := lw_g (lw_at lw_m14 80 rfl) rfl
theorem q3426 : (Jvm.Cond.code ({ cls := "CodeLayoutModel$Run", name := "shifted", desc := "(IJ)J" } : Jvm.MethodName) prog_18_method_32_code (8 : Nat) (Option.some Jvm.ClassFile.FieldType.long)) ∈ lw_all := lw_g (lw_at lw_m14 81 rfl) rfl
theorem q3427 : (Jvm.Cond.methodLink "CodeLayoutModel$Run" (240 : Nat) ({ cls := "CodeLayoutModel$Run", name := "set", desc := "(IJ)V" } : Jvm.MethodName)) ∈ lw_all := lw_g (lw_at lw_m14 82 rfl) rfl
theorem q3429 : (Jvm.Cond.instanceMethod ({ cls := "CodeLayoutModel$Run", name := "set", desc := "(IJ)V" } : Jvm.MethodName)) ∈ lw_all := lw_g (lw_at lw_m14 84 rfl) rfl
theorem q3430 : (Jvm.Cond.code ({ cls := "CodeLayoutModel$Run", name := "set", desc := "(IJ)V" } : Jvm.MethodName) prog_18_method_21_code (4 : Nat) (Option.none : Option Jvm.ClassFile.FieldType)) ∈ lw_all := lw_g (lw_at lw_m14 85 rfl) rfl
theorem q3431 : (Jvm.Cond.methodLink "CodeLayoutModel$Run" (308 : Nat) ({ cls := "CodeLayoutModel$Run", name := "and", desc := "(IIII)I" } : Jvm.MethodName)) ∈ lw_all := lw_g (lw_at lw_m14 86 rfl) rfl
theorem q3433 : (Jvm.Cond.instanceMethod ({ cls := "CodeLayoutModel$Run", name := "and", desc := "(IIII)I" } : Jvm.MethodName)) ∈ lw_all := lw_g (lw_at lw_m14 88 rfl) rfl
theorem q3434 : (Jvm.Cond.code ({ cls := "CodeLayoutModel$Run", name := "and", desc := "(IIII)I" } : Jvm.MethodName) prog_18_method_33_code (13 : Nat) (Option.some Jvm.ClassFile.FieldType.int)) ∈ lw_all := lw_g (lw_at lw_m14 89 rfl) rfl
theorem q3435 : (Jvm.Cond.methodLink "CodeLayoutModel$Run" (346 : Nat) ({ cls := "CodeLayoutModel$Run", name := "copy", desc := "(II)V" } : Jvm.MethodName)) ∈ lw_all := lw_g (lw_at lw_m14 90 rfl) rfl
theorem q3437 : (Jvm.Cond.instanceMethod ({ cls := "CodeLayoutModel$Run", name := "copy", desc := "(II)V" } : Jvm.MethodName)) ∈ lw_all := lw_g (lw_at lw_m14 92 rfl) rfl
theorem q3438 : (Jvm.Cond.code ({ cls := "CodeLayoutModel$Run", name := "copy", desc := "(II)V" } : Jvm.MethodName) prog_18_method_34_code (3 : Nat) (Option.none : Option Jvm.ClassFile.FieldType)) ∈ lw_all := lw_g (lw_at lw_m14 93 rfl) rfl
theorem q3439 : (Jvm.Cond.methodLink "CodeLayoutModel$Run" (311 : Nat) ({ cls := "CodeLayoutModel$Run", name := "move", desc := "(II)I" } : Jvm.MethodName)) ∈ lw_all := lw_g (lw_at lw_m14 94 rfl) rfl
theorem q3441 : (Jvm.Cond.instanceMethod ({ cls := "CodeLayoutModel$Run", name := "move", desc := "(II)I" } : Jvm.MethodName)) ∈ lw_all := lw_g (lw_at lw_m14 96 rfl) rfl
theorem q3442 : (Jvm.Cond.code ({ cls := "CodeLayoutModel$Run", name := "move", desc := "(II)I" } : Jvm.MethodName) prog_18_method_35_code (7 : Nat) (Option.some Jvm.ClassFile.FieldType.int)) ∈ lw_all := lw_g (lw_at lw_m14 97 rfl) rfl
theorem q3443 : (Jvm.Cond.constantLong "CodeLayoutModel$Run" (350 : Nat) (65535 : Int64)) ∈ lw_all := lw_g (lw_at lw_m14 98 rfl) rfl
theorem q3444 : (Jvm.Cond.methodLink "CodeLayoutModel$Run" (314 : Nat) ({ cls := "CodeLayoutModel$Run", name := "adrp", desc := "(III)V" } : Jvm.MethodName)) ∈ lw_all := lw_g (lw_at lw_m14 99 rfl) rfl
theorem q3446 : (Jvm.Cond.instanceMethod ({ cls := "CodeLayoutModel$Run", name := "adrp", desc := "(III)V" } : Jvm.MethodName)) ∈ lw_all := lw_g (lw_at lw_m14 101 rfl) rfl
theorem q3447 : (Jvm.Cond.code ({ cls := "CodeLayoutModel$Run", name := "adrp", desc := "(III)V" } : Jvm.MethodName) prog_18_method_36_code (6 : Nat) (Option.none : Option Jvm.ClassFile.FieldType)) ∈ lw_all := lw_g (lw_at lw_m14 102 rfl) rfl
theorem q3448 : (Jvm.Cond.methodLinkNest "CodeLayoutModel$Run" (352 : Nat) ({ cls := "CodeLayoutModel", name := "page", desc := "(IJ)J" } : Jvm.MethodName) "CodeLayoutModel") ∈ lw_tbl := lw_at lw_m14 103 rfl
theorem q3449 : (Jvm.Cond.methodLink "CodeLayoutModel$Run" (318 : Nat) ({ cls := "CodeLayoutModel$Run", name := "two", desc := "(IJJ)J" } : Jvm.MethodName)) ∈ lw_all := lw_g (lw_at lw_m14 104 rfl) rfl
theorem q3450 : (Jvm.Cond.static ({ cls := "CodeLayoutModel$Run", name := "two", desc := "(IJJ)J" } : Jvm.MethodName)) ∈ lw_all := lw_g (lw_at lw_m14 105 rfl) rfl
theorem q3451 : (Jvm.Cond.code ({ cls := "CodeLayoutModel$Run", name := "two", desc := "(IJJ)J" } : Jvm.MethodName) prog_18_method_37_code (6 : Nat) (Option.some Jvm.ClassFile.FieldType.long)) ∈ lw_all := lw_g (lw_at lw_m14 106 rfl) rfl
theorem q3452 : (Jvm.Cond.methodLink "CodeLayoutModel$Run" (355 : Nat) ({ cls := "java/lang/Long", name := "divideUnsigned", desc := "(JJ)J" } : Jvm.MethodName)) ∈ lw_all := lw_g (lw_at lw_m14 107 rfl) rfl
theorem q3453 : (Jvm.Cond.static ({ cls := "java/lang/Long", name := "divideUnsigned", desc := "(JJ)J" } : Jvm.MethodName)) ∈ lw_all := lw_g (lw_at lw_m14 108 rfl) rfl
theorem q3454 : (Jvm.Cond.code ({ cls := "java/lang/Long", name := "divideUnsigned", desc := "(JJ)J" } : Jvm.MethodName) prog_25_method_44_code (8 : Nat) (Option.some Jvm.ClassFile.FieldType.long)) ∈ lw_all := lw_g (lw_at lw_m14 109 rfl) rfl
theorem q3455 : (Jvm.Cond.constantLong "java/lang/Long" (306 : Nat) (-1 : Int64)) ∈ lw_all := lw_g (lw_at lw_m14 110 rfl) rfl
theorem q3456 : (Jvm.Cond.methodLink "CodeLayoutModel$Run" (322 : Nat) ({ cls := "CodeLayoutModel$Run", name := "twoWords", desc := "(III)J" } : Jvm.MethodName)) ∈ lw_all := lw_g (lw_at lw_m14 111 rfl) rfl
theorem q3457 : (Jvm.Cond.static ({ cls := "CodeLayoutModel$Run", name := "twoWords", desc := "(III)J" } : Jvm.MethodName)) ∈ lw_all := lw_g (lw_at lw_m14 112 rfl) rfl
theorem q3458 : (Jvm.Cond.code ({ cls := "CodeLayoutModel$Run", name := "twoWords", desc := "(III)J" } : Jvm.MethodName) prog_18_method_38_code (4 : Nat) (Option.some Jvm.ClassFile.FieldType.long)) ∈ lw_all := lw_g (lw_at lw_m14 113 rfl) rfl
theorem q3459 : (Jvm.Cond.methodLink "CodeLayoutModel$Run" (326 : Nat) ({ cls := "CodeLayoutModel$Run", name := "choose", desc := "(IIII)I" } : Jvm.MethodName)) ∈ lw_all := lw_g (lw_at lw_m14 114 rfl) rfl
theorem q3461 : (Jvm.Cond.instanceMethod ({ cls := "CodeLayoutModel$Run", name := "choose", desc := "(IIII)I" } : Jvm.MethodName)) ∈ lw_all := lw_g (lw_at lw_m14 116 rfl) rfl
theorem q3462 : (Jvm.Cond.code ({ cls := "CodeLayoutModel$Run", name := "choose", desc := "(IIII)I" } : Jvm.MethodName) prog_18_method_39_code (11 : Nat) (Option.some Jvm.ClassFile.FieldType.int)) ∈ lw_all := lw_g (lw_at lw_m14 117 rfl) rfl
theorem q3463 : (Jvm.Cond.methodLink "CodeLayoutModel$Run" (359 : Nat) ({ cls := "CodeLayoutModel$Run", name := "holds", desc := "(I)Z" } : Jvm.MethodName)) ∈ lw_all := lw_g (lw_at lw_m14 118 rfl) rfl
theorem q3465 : (Jvm.Cond.instanceMethod ({ cls := "CodeLayoutModel$Run", name := "holds", desc := "(I)Z" } : Jvm.MethodName)) ∈ lw_all := lw_g (lw_at lw_m14 120 rfl) rfl
theorem q3466 : (Jvm.Cond.code ({ cls := "CodeLayoutModel$Run", name := "holds", desc := "(I)Z" } : Jvm.MethodName) prog_18_method_25_code (3 : Nat) (Option.some Jvm.ClassFile.FieldType.boolean)) ∈ lw_all := lw_g (lw_at lw_m14 121 rfl) rfl
theorem q3467 : (Jvm.Cond.methodLink "CodeLayoutModel$Run" (329 : Nat) ({ cls := "CodeLayoutModel$Run", name := "pair", desc := "(III)I" } : Jvm.MethodName)) ∈ lw_all := lw_g (lw_at lw_m14 122 rfl) rfl
theorem q3469 : (Jvm.Cond.instanceMethod ({ cls := "CodeLayoutModel$Run", name := "pair", desc := "(III)I" } : Jvm.MethodName)) ∈ lw_all := lw_g (lw_at lw_m14 124 rfl) rfl
theorem q3470 : (Jvm.Cond.code ({ cls := "CodeLayoutModel$Run", name := "pair", desc := "(III)I" } : Jvm.MethodName) prog_18_method_41_code (11 : Nat) (Option.some Jvm.ClassFile.FieldType.int)) ∈ lw_all := lw_g (lw_at lw_m14 125 rfl) rfl
theorem q3471 : (Jvm.Cond.constantLong "CodeLayoutModel$Run" (383 : Nat) (8 : Int64)) ∈ lw_all := lw_g (lw_at lw_m14 126 rfl) rfl
theorem q3472 : (Jvm.Cond.methodLinkNest "CodeLayoutModel$Run" (385 : Nat) ({ cls := "CodeLayoutModel", name := "signed", desc := "(III)I" } : Jvm.MethodName) "CodeLayoutModel") ∈ lw_tbl := lw_at lw_m14 127 rfl
theorem q3473 : (Jvm.Cond.methodLink "CodeLayoutModel$Run" (373 : Nat) ({ cls := "CodeLayoutModel$Run", name := "stopsLoad", desc := "(JI)Z" } : Jvm.MethodName)) ∈ lw_all := lw_g (lw_at lw_m14 128 rfl) rfl
theorem q3475 : (Jvm.Cond.instanceMethod ({ cls := "CodeLayoutModel$Run", name := "stopsLoad", desc := "(JI)Z" } : Jvm.MethodName)) ∈ lw_all := lw_g (lw_at lw_m14 130 rfl) rfl
theorem q3476 : (Jvm.Cond.code ({ cls := "CodeLayoutModel$Run", name := "stopsLoad", desc := "(JI)Z" } : Jvm.MethodName) prog_18_method_13_code (4 : Nat) (Option.some Jvm.ClassFile.FieldType.boolean)) ∈ lw_all := lw_g (lw_at lw_m14 131 rfl) rfl
theorem q3477 : (Jvm.Cond.methodLink "CodeLayoutModel$Run" (214 : Nat) ({ cls := "CodeLayoutModel$Run", name := "hits", desc := "(JI)Z" } : Jvm.MethodName)) ∈ lw_all := lw_g (lw_at lw_m14 132 rfl) rfl
theorem q3479 : (Jvm.Cond.instanceMethod ({ cls := "CodeLayoutModel$Run", name := "hits", desc := "(JI)Z" } : Jvm.MethodName)) ∈ lw_all := lw_g (lw_at lw_m14 134 rfl) rfl
theorem q3480 : (Jvm.Cond.code ({ cls := "CodeLayoutModel$Run", name := "hits", desc := "(JI)Z" } : Jvm.MethodName) prog_18_method_10_code (5 : Nat) (Option.some Jvm.ClassFile.FieldType.boolean)) ∈ lw_all := lw_g (lw_at lw_m14 135 rfl) rfl
theorem q3481 : (Jvm.Cond.methodLink "CodeLayoutModel$Run" (203 : Nat) ({ cls := "java/lang/Math", name := "max", desc := "(II)I" } : Jvm.MethodName)) ∈ lw_all := lw_g (lw_at lw_m14 136 rfl) rfl
theorem q3482 : (Jvm.Cond.methodLink "CodeLayoutModel$Run" (218 : Nat) ({ cls := "CodeLayoutModel$Run", name := "isWhole", desc := "(JI)Z" } : Jvm.MethodName)) ∈ lw_all := lw_g (lw_at lw_m14 137 rfl) rfl
theorem q3484 : (Jvm.Cond.instanceMethod ({ cls := "CodeLayoutModel$Run", name := "isWhole", desc := "(JI)Z" } : Jvm.MethodName)) ∈ lw_all := lw_g (lw_at lw_m14 139 rfl) rfl
theorem q3485 : (Jvm.Cond.code ({ cls := "CodeLayoutModel$Run", name := "isWhole", desc := "(JI)Z" } : Jvm.MethodName) prog_18_method_12_code (4 : Nat) (Option.some Jvm.ClassFile.FieldType.boolean)) ∈ lw_all := lw_g (lw_at lw_m14 140 rfl) rfl
theorem q3486 : (Jvm.Cond.constantLong "CodeLayoutModel$Run" (212 : Nat) (7 : Int64)) ∈ lw_all := lw_g (lw_at lw_m14 141 rfl) rfl
theorem q3487 : (Jvm.Cond.methodLink "CodeLayoutModel$Run" (221 : Nat) ({ cls := "CodeLayoutModel$Run", name := "hasCode", desc := "(JI)Z" } : Jvm.MethodName)) ∈ lw_all := lw_g (lw_at lw_m14 142 rfl) rfl
theorem q3489 : (Jvm.Cond.instanceMethod ({ cls := "CodeLayoutModel$Run", name := "hasCode", desc := "(JI)Z" } : Jvm.MethodName)) ∈ lw_all := lw_g (lw_at lw_m14 144 rfl) rfl
theorem q3490 : (Jvm.Cond.code ({ cls := "CodeLayoutModel$Run", name := "hasCode", desc := "(JI)Z" } : Jvm.MethodName) prog_18_method_11_code (6 : Nat) (Option.some Jvm.ClassFile.FieldType.boolean)) ∈ lw_all := lw_g (lw_at lw_m14 145 rfl) rfl
theorem q3491 : (Jvm.Cond.methodLink "CodeLayoutModel$Run" (209 : Nat) ({ cls := "CodeLayoutModel$Run", name := "at", desc := "(JI)I" } : Jvm.MethodName)) ∈ lw_all := lw_g (lw_at lw_m14 146 rfl) rfl
theorem q3492 : (Jvm.Cond.instanceMethod ({ cls := "CodeLayoutModel$Run", name := "at", desc := "(JI)I" } : Jvm.MethodName)) ∈ lw_all := lw_g (lw_at lw_m14 147 rfl) rfl
theorem q3493 : (Jvm.Cond.selects "CodeLayoutModel$Run" ({ cls := "CodeLayoutModel$Run", name := "at", desc := "(JI)I" } : Jvm.MethodName) ({ cls := "CodeLayoutModel$Run", name := "at", desc := "(JI)I" } : Jvm.MethodName)) ∈ lw_all := lw_g (lw_at lw_m14 148 rfl) rfl
theorem q3494 : (Jvm.Cond.code ({ cls := "CodeLayoutModel$Run", name := "at", desc := "(JI)I" } : Jvm.MethodName) prog_18_method_6_code (7 : Nat) (Option.some Jvm.ClassFile.FieldType.int)) ∈ lw_all := lw_g (lw_at lw_m14 149 rfl) rfl
theorem q3495 : (Jvm.Cond.constantLong "CodeLayoutModel$Run" (162 : Nat) (2147418112 : Int64)) ∈ lw_all := lw_g (lw_at lw_m14 150 rfl) rfl
theorem q3496 : (Jvm.Cond.constant "CodeLayoutModel$Run" (164 : Nat) (60000 : Int32)) ∈ lw_all := lw_g (lw_at lw_m14 151 rfl) rfl
theorem q3497 : (Jvm.Cond.methodLink "CodeLayoutModel$Run" (362 : Nat) ({ cls := "CodeLayoutModel$Run", name := "stopsStore", desc := "(IJI)Z" } : Jvm.MethodName)) ∈ lw_all := lw_g (lw_at lw_m14 152 rfl) rfl
theorem q3499 : (Jvm.Cond.instanceMethod ({ cls := "CodeLayoutModel$Run", name := "stopsStore", desc := "(IJI)Z" } : Jvm.MethodName)) ∈ lw_all := lw_g (lw_at lw_m14 154 rfl) rfl
theorem q3500 : (Jvm.Cond.code ({ cls := "CodeLayoutModel$Run", name := "stopsStore", desc := "(IJI)Z" } : Jvm.MethodName) prog_18_method_14_code (6 : Nat) (Option.some Jvm.ClassFile.FieldType.boolean)) ∈ lw_all := lw_g (lw_at lw_m14 155 rfl) rfl
theorem q3501 : (Jvm.Cond.methodLink "CodeLayoutModel$Run" (376 : Nat) ({ cls := "CodeLayoutModel$Run", name := "faultsLoad", desc := "(JI)Z" } : Jvm.MethodName)) ∈ lw_all := lw_g (lw_at lw_m14 156 rfl) rfl
theorem q3503 : (Jvm.Cond.instanceMethod ({ cls := "CodeLayoutModel$Run", name := "faultsLoad", desc := "(JI)Z" } : Jvm.MethodName)) ∈ lw_all := lw_g (lw_at lw_m14 158 rfl) rfl
theorem q3504 : (Jvm.Cond.code ({ cls := "CodeLayoutModel$Run", name := "faultsLoad", desc := "(JI)Z" } : Jvm.MethodName) prog_18_method_15_code (4 : Nat) (Option.some Jvm.ClassFile.FieldType.boolean)) ∈ lw_all := lw_g (lw_at lw_m14 159 rfl) rfl
theorem q3505 : (Jvm.Cond.methodLink "CodeLayoutModel$Run" (366 : Nat) ({ cls := "CodeLayoutModel$Run", name := "faultsStore", desc := "(JI)Z" } : Jvm.MethodName)) ∈ lw_all := lw_g (lw_at lw_m14 160 rfl) rfl
theorem q3507 : (Jvm.Cond.instanceMethod ({ cls := "CodeLayoutModel$Run", name := "faultsStore", desc := "(JI)Z" } : Jvm.MethodName)) ∈ lw_all := lw_g (lw_at lw_m14 162 rfl) rfl
theorem q3508 : (Jvm.Cond.code ({ cls := "CodeLayoutModel$Run", name := "faultsStore", desc := "(JI)Z" } : Jvm.MethodName) prog_18_method_16_code (4 : Nat) (Option.some Jvm.ClassFile.FieldType.boolean)) ∈ lw_all := lw_g (lw_at lw_m14 163 rfl) rfl
theorem q3509 : (Jvm.Cond.methodLink "CodeLayoutModel$Run" (227 : Nat) ({ cls := "CodeLayoutModel$Run", name := "isWritable", desc := "(J)Z" } : Jvm.MethodName)) ∈ lw_all := lw_g (lw_at lw_m14 164 rfl) rfl
theorem q3511 : (Jvm.Cond.instanceMethod ({ cls := "CodeLayoutModel$Run", name := "isWritable", desc := "(J)Z" } : Jvm.MethodName)) ∈ lw_all := lw_g (lw_at lw_m14 166 rfl) rfl
theorem q3512 : (Jvm.Cond.code ({ cls := "CodeLayoutModel$Run", name := "isWritable", desc := "(J)Z" } : Jvm.MethodName) prog_18_method_7_code (4 : Nat) (Option.some Jvm.ClassFile.FieldType.boolean)) ∈ lw_all := lw_g (lw_at lw_m14 167 rfl) rfl
theorem q3513 : (Jvm.Cond.methodLink "CodeLayoutModel$Run" (379 : Nat) ({ cls := "CodeLayoutModel$Run", name := "load", desc := "(IJIZ)V" } : Jvm.MethodName)) ∈ lw_all := lw_g (lw_at lw_m14 168 rfl) rfl
theorem q3515 : (Jvm.Cond.instanceMethod ({ cls := "CodeLayoutModel$Run", name := "load", desc := "(IJIZ)V" } : Jvm.MethodName)) ∈ lw_all := lw_g (lw_at lw_m14 170 rfl) rfl
theorem q3516 : (Jvm.Cond.code ({ cls := "CodeLayoutModel$Run", name := "load", desc := "(IJIZ)V" } : Jvm.MethodName) prog_18_method_18_code (9 : Nat) (Option.none : Option Jvm.ClassFile.FieldType)) ∈ lw_all := lw_g (lw_at lw_m14 171 rfl) rfl
theorem q3517 : (Jvm.Cond.methodLink "CodeLayoutModel$Run" (237 : Nat) ({ cls := "CodeLayoutModel$Run", name := "loaded", desc := "(JI)J" } : Jvm.MethodName)) ∈ lw_all := lw_g (lw_at lw_m14 172 rfl) rfl
theorem q3519 : (Jvm.Cond.instanceMethod ({ cls := "CodeLayoutModel$Run", name := "loaded", desc := "(JI)J" } : Jvm.MethodName)) ∈ lw_all := lw_g (lw_at lw_m14 174 rfl) rfl
theorem q3520 : (Jvm.Cond.code ({ cls := "CodeLayoutModel$Run", name := "loaded", desc := "(JI)J" } : Jvm.MethodName) prog_18_method_17_code (10 : Nat) (Option.some Jvm.ClassFile.FieldType.long)) ∈ lw_all := lw_g (lw_at lw_m14 175 rfl) rfl
theorem q3521 : (Jvm.Cond.methodLink "CodeLayoutModel$Run" (230 : Nat) ({ cls := "CodeLayoutModel$Run", name := "get", desc := "(II)J" } : Jvm.MethodName)) ∈ lw_all := lw_g (lw_at lw_m14 176 rfl) rfl
theorem q3523 : (Jvm.Cond.instanceMethod ({ cls := "CodeLayoutModel$Run", name := "get", desc := "(II)J" } : Jvm.MethodName)) ∈ lw_all := lw_g (lw_at lw_m14 178 rfl) rfl
theorem q3524 : (Jvm.Cond.code ({ cls := "CodeLayoutModel$Run", name := "get", desc := "(II)J" } : Jvm.MethodName) prog_18_method_5_code (6 : Nat) (Option.some Jvm.ClassFile.FieldType.long)) ∈ lw_all := lw_g (lw_at lw_m14 179 rfl) rfl
theorem q3525 : (Jvm.Cond.methodLink "CodeLayoutModel$Run" (369 : Nat) ({ cls := "CodeLayoutModel$Run", name := "store", desc := "(IJI)V" } : Jvm.MethodName)) ∈ lw_all := lw_g (lw_at lw_m14 180 rfl) rfl
theorem q3527 : (Jvm.Cond.instanceMethod ({ cls := "CodeLayoutModel$Run", name := "store", desc := "(IJI)V" } : Jvm.MethodName)) ∈ lw_all := lw_g (lw_at lw_m14 182 rfl) rfl
theorem q3528 : (Jvm.Cond.code ({ cls := "CodeLayoutModel$Run", name := "store", desc := "(IJI)V" } : Jvm.MethodName) prog_18_method_19_code (6 : Nat) (Option.none : Option Jvm.ClassFile.FieldType)) ∈ lw_all := lw_g (lw_at lw_m14 183 rfl) rfl
theorem q3529 : (Jvm.Cond.methodLink "CodeLayoutModel$Run" (332 : Nat) ({ cls := "CodeLayoutModel$Run", name := "moveOne", desc := "(IIIII)I" } : Jvm.MethodName)) ∈ lw_all := lw_g (lw_at lw_m14 184 rfl) rfl
theorem q3531 : (Jvm.Cond.instanceMethod ({ cls := "CodeLayoutModel$Run", name := "moveOne", desc := "(IIIII)I" } : Jvm.MethodName)) ∈ lw_all := lw_g (lw_at lw_m14 186 rfl) rfl
theorem q3532 : (Jvm.Cond.code ({ cls := "CodeLayoutModel$Run", name := "moveOne", desc := "(IIIII)I" } : Jvm.MethodName) prog_18_method_40_code (11 : Nat) (Option.some Jvm.ClassFile.FieldType.int)) ∈ lw_all := lw_g (lw_at lw_m14 187 rfl) rfl
theorem q3533 : (Jvm.Cond.methodLink "CodeLayoutModel$Run" (282 : Nat) ({ cls := "CodeLayoutModel$Run", name := "goes", desc := "(III)I" } : Jvm.MethodName)) ∈ lw_all := lw_g (lw_at lw_m14 188 rfl) rfl
theorem q3535 : (Jvm.Cond.instanceMethod ({ cls := "CodeLayoutModel$Run", name := "goes", desc := "(III)I" } : Jvm.MethodName)) ∈ lw_all := lw_g (lw_at lw_m14 190 rfl) rfl
theorem q3536 : (Jvm.Cond.code ({ cls := "CodeLayoutModel$Run", name := "goes", desc := "(III)I" } : Jvm.MethodName) prog_18_method_42_code (9 : Nat) (Option.some Jvm.ClassFile.FieldType.int)) ∈ lw_all := lw_g (lw_at lw_m14 191 rfl) rfl
theorem q3537 : (Jvm.Cond.methodLinkNest "CodeLayoutModel$Run" (388 : Nat) ({ cls := "CodeLayoutModel", name := "far", desc := "(II)I" } : Jvm.MethodName) "CodeLayoutModel") ∈ lw_tbl := lw_at lw_m14 192 rfl
theorem q3538 : (Jvm.Cond.methodLink "CodeLayoutModel$Run" (391 : Nat) ({ cls := "CodeLayoutModel$Run", name := "returnHere", desc := "(I)V" } : Jvm.MethodName)) ∈ lw_all := lw_g (lw_at lw_m14 193 rfl) rfl
theorem q3540 : (Jvm.Cond.instanceMethod ({ cls := "CodeLayoutModel$Run", name := "returnHere", desc := "(I)V" } : Jvm.MethodName)) ∈ lw_all := lw_g (lw_at lw_m14 195 rfl) rfl
theorem q3541 : (Jvm.Cond.code ({ cls := "CodeLayoutModel$Run", name := "returnHere", desc := "(I)V" } : Jvm.MethodName) prog_18_method_43_code (2 : Nat) (Option.none : Option Jvm.ClassFile.FieldType)) ∈ lw_all := lw_g (lw_at lw_m14 196 rfl) rfl
theorem q3542 : (Jvm.Cond.methodLink "CodeLayoutModel$Run" (395 : Nat) ({ cls := "CodeLayoutModel$Run", name := "goesTo", desc := "(IZI)I" } : Jvm.MethodName)) ∈ lw_all := lw_g (lw_at lw_m14 197 rfl) rfl
theorem q3544 : (Jvm.Cond.instanceMethod ({ cls := "CodeLayoutModel$Run", name := "goesTo", desc := "(IZI)I" } : Jvm.MethodName)) ∈ lw_all := lw_g (lw_at lw_m14 199 rfl) rfl
theorem q3545 : (Jvm.Cond.code ({ cls := "CodeLayoutModel$Run", name := "goesTo", desc := "(IZI)I" } : Jvm.MethodName) prog_18_method_44_code (8 : Nat) (Option.some Jvm.ClassFile.FieldType.int)) ∈ lw_all := lw_g (lw_at lw_m14 200 rfl) rfl
theorem q3546 : (Jvm.Cond.methodLinkNest "CodeLayoutModel$Run" (402 : Nat) ({ cls := "CodeLayoutModel", name := "isPlace", desc := "(ZJ)Z" } : Jvm.MethodName) "CodeLayoutModel") ∈ lw_tbl := lw_at lw_m14 201 rfl
theorem q3548 : (Jvm.Cond.instanceMethod ({ cls := "CodeLayoutModel", name := "isPlace", desc := "(ZJ)Z" } : Jvm.MethodName)) ∈ lw_all := lw_g (lw_at lw_m14 203 rfl) rfl
theorem q3549 : (Jvm.Cond.code ({ cls := "CodeLayoutModel", name := "isPlace", desc := "(ZJ)Z" } : Jvm.MethodName) prog_16_method_74_code (6 : Nat) (Option.some Jvm.ClassFile.FieldType.boolean)) ∈ lw_all := lw_g (lw_at lw_m14 204 rfl) rfl
theorem q3550 : (Jvm.Cond.methodLink "CodeLayoutModel" (578 : Nat) ({ cls := "CodeLayoutModel", name := "blockAtNew", desc := "(I)I" } : Jvm.MethodName)) ∈ lw_all := lw_g (lw_at lw_m14 205 rfl) rfl
theorem q3551 : (Jvm.Cond.methodLink "CodeLayoutModel$Run" (399 : Nat) ({ cls := "CodeLayoutModel$Run", name := "call", desc := "()I" } : Jvm.MethodName)) ∈ lw_all := lw_g (lw_at lw_m14 206 rfl) rfl
theorem q3553 : (Jvm.Cond.instanceMethod ({ cls := "CodeLayoutModel$Run", name := "call", desc := "()I" } : Jvm.MethodName)) ∈ lw_all := lw_g (lw_at lw_m14 208 rfl) rfl
theorem q3554 : (Jvm.Cond.code ({ cls := "CodeLayoutModel$Run", name := "call", desc := "()I" } : Jvm.MethodName) prog_18_method_45_code (4 : Nat) (Option.some Jvm.ClassFile.FieldType.int)) ∈ lw_all := lw_g (lw_at lw_m14 209 rfl) rfl
theorem q3555 : (Jvm.Cond.constantLong "CodeLayoutModel$Run" (406 : Nat) (64 : Int64)) ∈ lw_all := lw_g (lw_at lw_m14 210 rfl) rfl
theorem q3556 : (Jvm.Cond.constantLong "CodeLayoutModel$Run" (408 : Nat) (4096 : Int64)) ∈ lw_all := lw_g (lw_at lw_m14 211 rfl) rfl
theorem q3557 : (Jvm.Cond.constantLong "CodeLayoutModel$Run" (410 : Nat) (93 : Int64)) ∈ lw_all := lw_g (lw_at lw_m14 212 rfl) rfl
theorem q3558 : (Jvm.Cond.constantLong "CodeLayoutModel$Run" (412 : Nat) (-38 : Int64)) ∈ lw_all := lw_g (lw_at lw_m14 213 rfl) rfl
theorem q3559 : (Jvm.Cond.methodLink "CodeLayoutLaw" (107 : Nat) ({ cls := "CodeLayoutModel", name := "told", desc := "(II)I" } : Jvm.MethodName)) ∈ lw_all := lw_g (lw_at lw_m14 214 rfl) rfl
theorem q3560 : (Jvm.Cond.instanceMethod ({ cls := "CodeLayoutModel", name := "told", desc := "(II)I" } : Jvm.MethodName)) ∈ lw_all := lw_g (lw_at lw_m14 215 rfl) rfl
theorem q3561 : (Jvm.Cond.selects "CodeLayoutModel" ({ cls := "CodeLayoutModel", name := "told", desc := "(II)I" } : Jvm.MethodName) ({ cls := "CodeLayoutModel", name := "told", desc := "(II)I" } : Jvm.MethodName)) ∈ lw_all := lw_g (lw_at lw_m14 216 rfl) rfl
theorem q3562 : (Jvm.Cond.code ({ cls := "CodeLayoutModel", name := "told", desc := "(II)I" } : Jvm.MethodName) prog_16_method_82_code (4 : Nat) (Option.some Jvm.ClassFile.FieldType.int)) ∈ lw_all := lw_g (lw_at lw_m14 217 rfl) rfl
theorem q3563 : (Jvm.Cond.methodLink "CodeLayoutModel" (594 : Nat) ({ cls := "CodeLayoutModel", name := "known", desc := "(I)LCodeLayoutModel$Run;" } : Jvm.MethodName)) ∈ lw_all := lw_g (lw_at lw_m14 218 rfl) rfl
theorem q3565 : (Jvm.Cond.instanceMethod ({ cls := "CodeLayoutModel", name := "known", desc := "(I)LCodeLayoutModel$Run;" } : Jvm.MethodName)) ∈ lw_all := lw_g (lw_at lw_m14 220 rfl) rfl
theorem q3566 : (Jvm.Cond.code ({ cls := "CodeLayoutModel", name := "known", desc := "(I)LCodeLayoutModel$Run;" } : Jvm.MethodName) prog_16_method_81_code (3 : Nat) (Option.some (Jvm.ClassFile.FieldType.object "CodeLayoutModel$Run"))) ∈ lw_all := lw_g (lw_at lw_m14 221 rfl) rfl
theorem q3567 : (Jvm.Cond.methodLink "CodeLayoutLaw" (111 : Nat) ({ cls := "CodeLayoutModel", name := "register", desc := "(II)J" } : Jvm.MethodName)) ∈ lw_all := lw_g (lw_at lw_m14 222 rfl) rfl
theorem q3568 : (Jvm.Cond.instanceMethod ({ cls := "CodeLayoutModel", name := "register", desc := "(II)J" } : Jvm.MethodName)) ∈ lw_all := lw_g (lw_at lw_m14 223 rfl) rfl
theorem q3569 : (Jvm.Cond.selects "CodeLayoutModel" ({ cls := "CodeLayoutModel", name := "register", desc := "(II)J" } : Jvm.MethodName) ({ cls := "CodeLayoutModel", name := "register", desc := "(II)J" } : Jvm.MethodName)) ∈ lw_all := lw_g (lw_at lw_m14 224 rfl) rfl
theorem q3570 : (Jvm.Cond.code ({ cls := "CodeLayoutModel", name := "register", desc := "(II)J" } : Jvm.MethodName) prog_16_method_83_code (4 : Nat) (Option.some Jvm.ClassFile.FieldType.long)) ∈ lw_all := lw_g (lw_at lw_m14 225 rfl) rfl
theorem q3571 : (Jvm.Cond.methodLink "CodeLayoutLaw" (115 : Nat) ({ cls := "CodeLayoutModel", name := "kind", desc := "(I)I" } : Jvm.MethodName)) ∈ lw_all := lw_g (lw_at lw_m14 226 rfl) rfl
theorem q3572 : (Jvm.Cond.instanceMethod ({ cls := "CodeLayoutModel", name := "kind", desc := "(I)I" } : Jvm.MethodName)) ∈ lw_all := lw_g (lw_at lw_m14 227 rfl) rfl
theorem q3573 : (Jvm.Cond.selects "CodeLayoutModel" ({ cls := "CodeLayoutModel", name := "kind", desc := "(I)I" } : Jvm.MethodName) ({ cls := "CodeLayoutModel", name := "kind", desc := "(I)I" } : Jvm.MethodName)) ∈ lw_all := lw_g (lw_at lw_m14 228 rfl) rfl
theorem q3574 : (Jvm.Cond.code ({ cls := "CodeLayoutModel", name := "kind", desc := "(I)I" } : Jvm.MethodName) prog_16_method_84_code (3 : Nat) (Option.some Jvm.ClassFile.FieldType.int)) ∈ lw_all := lw_g (lw_at lw_m14 229 rfl) rfl
theorem q3575 : (Jvm.Cond.methodLink "CodeLayoutLaw" (120 : Nat) ({ cls := "CodeLayoutModel", name := "newer", desc := "(I)J" } : Jvm.MethodName)) ∈ lw_all := lw_g (lw_at lw_m14 230 rfl) rfl
theorem q3576 : (Jvm.Cond.instanceMethod ({ cls := "CodeLayoutModel", name := "newer", desc := "(I)J" } : Jvm.MethodName)) ∈ lw_all := lw_g (lw_at lw_m14 231 rfl) rfl
theorem q3577 : (Jvm.Cond.selects "CodeLayoutModel" ({ cls := "CodeLayoutModel", name := "newer", desc := "(I)J" } : Jvm.MethodName) ({ cls := "CodeLayoutModel", name := "newer", desc := "(I)J" } : Jvm.MethodName)) ∈ lw_all := lw_g (lw_at lw_m14 232 rfl) rfl
theorem q3578 : (Jvm.Cond.code ({ cls := "CodeLayoutModel", name := "newer", desc := "(I)J" } : Jvm.MethodName) prog_16_method_86_code (3 : Nat) (Option.some Jvm.ClassFile.FieldType.long)) ∈ lw_all := lw_g (lw_at lw_m14 233 rfl) rfl
theorem q3579 : (Jvm.Cond.methodLink "CodeLayoutModel" (632 : Nat) ({ cls := "CodeLayoutModel", name := "newOf", desc := "(II)J" } : Jvm.MethodName)) ∈ lw_all := lw_g (lw_at lw_m14 234 rfl) rfl
theorem q3581 : (Jvm.Cond.instanceMethod ({ cls := "CodeLayoutModel", name := "newOf", desc := "(II)J" } : Jvm.MethodName)) ∈ lw_all := lw_g (lw_at lw_m14 236 rfl) rfl
theorem q3582 : (Jvm.Cond.code ({ cls := "CodeLayoutModel", name := "newOf", desc := "(II)J" } : Jvm.MethodName) prog_16_method_85_code (4 : Nat) (Option.some Jvm.ClassFile.FieldType.long)) ∈ lw_all := lw_g (lw_at lw_m14 237 rfl) rfl
theorem q3583 : (Jvm.Cond.methodLink "CodeLayoutLaw" (124 : Nat) ({ cls := "CodeLayoutModel", name := "visit", desc := "(II)I" } : Jvm.MethodName)) ∈ lw_all := lw_g (lw_at lw_m14 238 rfl) rfl
theorem q3584 : (Jvm.Cond.instanceMethod ({ cls := "CodeLayoutModel", name := "visit", desc := "(II)I" } : Jvm.MethodName)) ∈ lw_all := lw_g (lw_at lw_m14 239 rfl) rfl
theorem q3585 : (Jvm.Cond.selects "CodeLayoutModel" ({ cls := "CodeLayoutModel", name := "visit", desc := "(II)I" } : Jvm.MethodName) ({ cls := "CodeLayoutModel", name := "visit", desc := "(II)I" } : Jvm.MethodName)) ∈ lw_all := lw_g (lw_at lw_m15 0 rfl) rfl
theorem q3586 : (Jvm.Cond.code ({ cls := "CodeLayoutModel", name := "visit", desc := "(II)I" } : Jvm.MethodName) prog_16_method_87_code (4 : Nat) (Option.some Jvm.ClassFile.FieldType.int)) ∈ lw_all := lw_g (lw_at lw_m15 1 rfl) rfl
theorem q3587 : (Jvm.Cond.methodLink "CodeLayoutLaw" (129 : Nat) ({ cls := "CodeLayoutModel", name := "memory", desc := "(IJ)I" } : Jvm.MethodName)) ∈ lw_all := lw_g (lw_at lw_m15 2 rfl) rfl
theorem q3588 : (Jvm.Cond.instanceMethod ({ cls := "CodeLayoutModel", name := "memory", desc := "(IJ)I" } : Jvm.MethodName)) ∈ lw_all := lw_g (lw_at lw_m15 3 rfl) rfl
theorem q3589 : (Jvm.Cond.selects "CodeLayoutModel" ({ cls := "CodeLayoutModel", name := "memory", desc := "(IJ)I" } : Jvm.MethodName) ({ cls := "CodeLayoutModel", name := "memory", desc := "(IJ)I" } : Jvm.MethodName)) ∈ lw_all := lw_g (lw_at lw_m15 4 rfl) rfl
theorem q3590 : (Jvm.Cond.code ({ cls := "CodeLayoutModel", name := "memory", desc := "(IJ)I" } : Jvm.MethodName) prog_16_method_88_code (6 : Nat) (Option.some Jvm.ClassFile.FieldType.int)) ∈ lw_all := lw_g (lw_at lw_m15 5 rfl) rfl
theorem q3591 : (Jvm.Cond.methodLink "CodeLayoutModel" (638 : Nat) ({ cls := "CodeLayoutModel$Run", name := "at", desc := "(JI)I" } : Jvm.MethodName)) ∈ lw_all := lw_g (lw_at lw_m15 6 rfl) rfl
theorem q3592 : (Jvm.Cond.methodLink "CodeLayoutLaw" (134 : Nat) ({ cls := "CodeLayoutModel", name := "keeps", desc := "(J)I" } : Jvm.MethodName)) ∈ lw_all := lw_g (lw_at lw_m15 7 rfl) rfl
theorem q3593 : (Jvm.Cond.instanceMethod ({ cls := "CodeLayoutModel", name := "keeps", desc := "(J)I" } : Jvm.MethodName)) ∈ lw_all := lw_g (lw_at lw_m15 8 rfl) rfl
theorem q3594 : (Jvm.Cond.selects "CodeLayoutModel" ({ cls := "CodeLayoutModel", name := "keeps", desc := "(J)I" } : Jvm.MethodName) ({ cls := "CodeLayoutModel", name := "keeps", desc := "(J)I" } : Jvm.MethodName)) ∈ lw_all := lw_g (lw_at lw_m15 9 rfl) rfl
theorem q3595 : (Jvm.Cond.code ({ cls := "CodeLayoutModel", name := "keeps", desc := "(J)I" } : Jvm.MethodName) prog_16_method_89_code (5 : Nat) (Option.some Jvm.ClassFile.FieldType.int)) ∈ lw_all := lw_g (lw_at lw_m15 10 rfl) rfl
theorem q3596 : (Jvm.Cond.constantLong "CodeLayoutModel" (643 : Nat) (7 : Int64)) ∈ lw_all := lw_g (lw_at lw_m15 11 rfl) rfl
theorem q3597 : (Jvm.Cond.methodLink "CodeLayoutLaw" (138 : Nat) ({ cls := "CodeLayoutModel", name := "newest", desc := "(J)J" } : Jvm.MethodName)) ∈ lw_all := lw_g (lw_at lw_m15 12 rfl) rfl
theorem q3598 : (Jvm.Cond.instanceMethod ({ cls := "CodeLayoutModel", name := "newest", desc := "(J)J" } : Jvm.MethodName)) ∈ lw_all := lw_g (lw_at lw_m15 13 rfl) rfl
theorem q3599 : (Jvm.Cond.selects "CodeLayoutModel" ({ cls := "CodeLayoutModel", name := "newest", desc := "(J)J" } : Jvm.MethodName) ({ cls := "CodeLayoutModel", name := "newest", desc := "(J)J" } : Jvm.MethodName)) ∈ lw_all := lw_g (lw_at lw_m15 14 rfl) rfl
theorem q3600 : (Jvm.Cond.code ({ cls := "CodeLayoutModel", name := "newest", desc := "(J)J" } : Jvm.MethodName) prog_16_method_90_code (4 : Nat) (Option.some Jvm.ClassFile.FieldType.long)) ∈ lw_all := lw_g (lw_at lw_m15 15 rfl) rfl
theorem q3601 : (Jvm.Cond.methodLink "CodeLayoutModel" (648 : Nat) ({ cls := "CodeLayoutModel", name := "keeps", desc := "(J)I" } : Jvm.MethodName)) ∈ lw_all := lw_g (lw_at lw_m15 16 rfl) rfl
theorem q3602 : (Jvm.Cond.methodLink "CodeLayoutLaw" (143 : Nat) ({ cls := "CodeLayoutModel", name := "trace", desc := "(III)J" } : Jvm.MethodName)) ∈ lw_all := lw_g (lw_at lw_m15 17 rfl) rfl
theorem q3603 : (Jvm.Cond.instanceMethod ({ cls := "CodeLayoutModel", name := "trace", desc := "(III)J" } : Jvm.MethodName)) ∈ lw_all := lw_g (lw_at lw_m15 18 rfl) rfl
theorem q3604 : (Jvm.Cond.selects "CodeLayoutModel" ({ cls := "CodeLayoutModel", name := "trace", desc := "(III)J" } : Jvm.MethodName) ({ cls := "CodeLayoutModel", name := "trace", desc := "(III)J" } : Jvm.MethodName)) ∈ lw_all := lw_g (lw_at lw_m15 19 rfl) rfl
theorem q3605 : (Jvm.Cond.code ({ cls := "CodeLayoutModel", name := "trace", desc := "(III)J" } : Jvm.MethodName) prog_16_method_91_code (5 : Nat) (Option.some Jvm.ClassFile.FieldType.long)) ∈ lw_all := lw_g (lw_at lw_m15 20 rfl) rfl
theorem q3606 : (Jvm.Cond.methodLink "CodeLayoutLaw" (147 : Nat) ({ cls := "CodeLayoutModel", name := "text", desc := "(II)I" } : Jvm.MethodName)) ∈ lw_all := lw_g (lw_at lw_m15 21 rfl) rfl
theorem q3607 : (Jvm.Cond.instanceMethod ({ cls := "CodeLayoutModel", name := "text", desc := "(II)I" } : Jvm.MethodName)) ∈ lw_all := lw_g (lw_at lw_m15 22 rfl) rfl
theorem q3608 : (Jvm.Cond.selects "CodeLayoutModel" ({ cls := "CodeLayoutModel", name := "text", desc := "(II)I" } : Jvm.MethodName) ({ cls := "CodeLayoutModel", name := "text", desc := "(II)I" } : Jvm.MethodName)) ∈ lw_all := lw_g (lw_at lw_m15 23 rfl) rfl
theorem q3609 : (Jvm.Cond.code ({ cls := "CodeLayoutModel", name := "text", desc := "(II)I" } : Jvm.MethodName) prog_16_method_92_code (4 : Nat) (Option.some Jvm.ClassFile.FieldType.int)) ∈ lw_all := lw_g (lw_at lw_m15 24 rfl) rfl
theorem q3610 : (Jvm.Cond.constantLong "CodeLayoutLaw" (46 : Nat) (4294967295 : Int64)) ∈ lw_all := lw_g (lw_at lw_m15 25 rfl) rfl
theorem q3612 : (Jvm.Cond.selects "CodeLayout$Writing" ({ cls := "CodeLayout$Writing", name := "size", desc := "()I" } : Jvm.MethodName) ({ cls := "CodeLayout$Writing", name := "size", desc := "()I" } : Jvm.MethodName)) ∈ lw_all := lw_g (lw_at lw_m15 27 rfl) rfl
theorem q3613 : (Jvm.Cond.selects "CodeLayout$Writing" ({ cls := "CodeLayout$Writing", name := "at", desc := "(I)I" } : Jvm.MethodName) ({ cls := "CodeLayout$Writing", name := "at", desc := "(I)I" } : Jvm.MethodName)) ∈ lw_all := lw_g (lw_at lw_m15 28 rfl) rfl
theorem q3614 : (Jvm.Cond.selects "CodeLayout$Held" ({ cls := "CodeLayout$Held", name := "at", desc := "(I)I" } : Jvm.MethodName) ({ cls := "CodeLayout$Held", name := "at", desc := "(I)I" } : Jvm.MethodName)) ∈ lw_all := lw_g (lw_at lw_m15 29 rfl) rfl
theorem q3615 : (Jvm.Cond.castable "CodeLayout$Machine" "java/lang/Object") ∈ lw_tbl := lw_at lw_m15 30 rfl
theorem q3629 : (Jvm.Cond.castable "CodeLayout$Ordering" "java/lang/Object") ∈ lw_tbl := lw_at lw_m15 44 rfl
theorem q3630 : (Jvm.Cond.castable "CodeLayout$Writing" "java/lang/Object") ∈ lw_tbl := lw_at lw_m15 45 rfl
