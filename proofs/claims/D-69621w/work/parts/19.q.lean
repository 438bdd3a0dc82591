set_option maxRecDepth 100000
theorem q177 : (Jvm.Cond.initialized "LandMapLaw") ∈ lw_all := lw_g (lw_at lw_m1 0 rfl) rfl
theorem q178 : (Jvm.Cond.initialized "LandMap") ∈ lw_all := lw_g (lw_at lw_m1 1 rfl) rfl
theorem q179 : (Jvm.Cond.initialized "LandMap$Stop") ∈ lw_all := lw_g (lw_at lw_m1 2 rfl) rfl
theorem q180 : (Jvm.Cond.initialized "java/lang/Throwable") ∈ lw_all := lw_g (lw_at lw_m1 3 rfl) rfl
theorem q181 : (Jvm.Cond.initialized "java/lang/Exception") ∈ lw_all := lw_g (lw_at lw_m1 4 rfl) rfl
theorem q182 : (Jvm.Cond.initialized "java/lang/RuntimeException") ∈ lw_all := lw_g (lw_at lw_m1 5 rfl) rfl
theorem q183 : (Jvm.Cond.initialized "java/lang/IllegalStateException") ∈ lw_all := lw_g (lw_at lw_m1 6 rfl) rfl
theorem q184 : (Jvm.Cond.initialized "LandMap$Scan") ∈ lw_all := lw_g (lw_at lw_m1 7 rfl) rfl
theorem q185 : (Jvm.Cond.initialized "LandMap$FeatureTexts") ∈ lw_all := lw_g (lw_at lw_m1 8 rfl) rfl
theorem q186 : (Jvm.Cond.initialized "LandMap$Draft") ∈ lw_all := lw_g (lw_at lw_m1 9 rfl) rfl
theorem q187 : (Jvm.Cond.initialized "java/util/AbstractCollection") ∈ lw_all := lw_g (lw_at lw_m1 10 rfl) rfl
theorem q188 : (Jvm.Cond.initialized "java/util/AbstractList") ∈ lw_all := lw_g (lw_at lw_m1 11 rfl) rfl
theorem q189 : (Jvm.Cond.initialized "java/util/ArrayList") ∈ lw_all := lw_g (lw_at lw_m1 12 rfl) rfl
theorem q190 : (Jvm.Cond.initialized "LandMap$Rules") ∈ lw_all := lw_g (lw_at lw_m1 13 rfl) rfl
theorem q191 : (Jvm.Cond.initialized "LandMap$Edges") ∈ lw_all := lw_g (lw_at lw_m1 14 rfl) rfl
theorem q192 : (Jvm.Cond.initialized "LandMap$Sorter") ∈ lw_all := lw_g (lw_at lw_m1 15 rfl) rfl
theorem q193 : (Jvm.Cond.initialized "LandMap$Relation") ∈ lw_all := lw_g (lw_at lw_m1 16 rfl) rfl
theorem q194 : (Jvm.Cond.initialized "LandMap$Overlay") ∈ lw_all := lw_g (lw_at lw_m1 17 rfl) rfl
theorem q195 : (Jvm.Cond.initialized "LandMap$Roads") ∈ lw_all := lw_g (lw_at lw_m1 18 rfl) rfl
theorem q196 : (Jvm.Cond.initialized "LandMap$Heap") ∈ lw_all := lw_g (lw_at lw_m1 19 rfl) rfl
theorem q197 : (Jvm.Cond.initialized "LandMap$Laid") ∈ lw_all := lw_g (lw_at lw_m1 20 rfl) rfl
theorem q198 : (Jvm.Cond.initialized "LandMap$Plane") ∈ lw_all := lw_g (lw_at lw_m1 21 rfl) rfl
theorem q199 : (Jvm.Cond.initialized "LandMap$HotSet") ∈ lw_all := lw_g (lw_at lw_m1 22 rfl) rfl
theorem q200 : (Jvm.Cond.initialized "LandMap$Part") ∈ lw_all := lw_g (lw_at lw_m1 23 rfl) rfl
theorem q201 : (Jvm.Cond.initialized "LandMap$Faces") ∈ lw_all := lw_g (lw_at lw_m1 24 rfl) rfl
theorem q202 : (Jvm.Cond.initialized "LandMap$State") ∈ lw_all := lw_g (lw_at lw_m1 25 rfl) rfl
theorem q203 : (Jvm.Cond.initialized "LandMap$Layer") ∈ lw_all := lw_g (lw_at lw_m1 26 rfl) rfl
theorem q204 : (Jvm.Cond.initialized "LandMap$Algebra") ∈ lw_all := lw_g (lw_at lw_m1 27 rfl) rfl
theorem q205 : (Jvm.Cond.initialized "LandMap$Spread") ∈ lw_all := lw_g (lw_at lw_m1 28 rfl) rfl
theorem q206 : (Jvm.Cond.initialized "LandMapModel") ∈ lw_all := lw_g (lw_at lw_m1 29 rfl) rfl
theorem q207 : (Jvm.Cond.initialized "LandMapModel$Trouble") ∈ lw_all := lw_g (lw_at lw_m1 30 rfl) rfl
theorem q208 : (Jvm.Cond.initialized "LandMapModel$Rules") ∈ lw_all := lw_g (lw_at lw_m1 31 rfl) rfl
theorem q209 : (Jvm.Cond.initialized "LandMapModel$Net") ∈ lw_all := lw_g (lw_at lw_m1 32 rfl) rfl
theorem q210 : (Jvm.Cond.initialized "LandMapModel$Places") ∈ lw_all := lw_g (lw_at lw_m1 33 rfl) rfl
theorem q211 : (Jvm.Cond.initialized "LandMapModel$Steps") ∈ lw_all := lw_g (lw_at lw_m1 34 rfl) rfl
theorem q212 : (Jvm.Cond.initialized "LandMapModel$Ints") ∈ lw_all := lw_g (lw_at lw_m1 35 rfl) rfl
theorem q213 : (Jvm.Cond.initialized "LandMapModel$Laid") ∈ lw_all := lw_g (lw_at lw_m1 36 rfl) rfl
theorem q214 : (Jvm.Cond.initialized "LandMapModel$Overlay") ∈ lw_all := lw_g (lw_at lw_m1 37 rfl) rfl
theorem q215 : (Jvm.Cond.initialized "LandMapModel$Relation") ∈ lw_all := lw_g (lw_at lw_m1 38 rfl) rfl
theorem q216 : (Jvm.Cond.initialized "LandMapModel$Roads") ∈ lw_all := lw_g (lw_at lw_m1 39 rfl) rfl
theorem q217 : (Jvm.Cond.initialized "LandMapModel$Worker") ∈ lw_all := lw_g (lw_at lw_m1 40 rfl) rfl
theorem q218 : (Jvm.Cond.initialized "LandMapModel$Spread") ∈ lw_all := lw_g (lw_at lw_m1 41 rfl) rfl
theorem q219 : (Jvm.Cond.initialized "LandMapModel$State") ∈ lw_all := lw_g (lw_at lw_m1 42 rfl) rfl
theorem q220 : (Jvm.Cond.initialized "LandMap$Feature") ∈ lw_all := lw_g (lw_at lw_m1 43 rfl) rfl
theorem q221 : (Jvm.Cond.initialized "jdk/internal/util/ArraysSupport") ∈ lw_all := lw_g (lw_at lw_m1 44 rfl) rfl
theorem q222 : (Jvm.Cond.initialized "java/lang/Math") ∈ lw_all := lw_g (lw_at lw_m1 45 rfl) rfl
theorem q223 : (Jvm.Cond.initialized "java/util/Arrays") ∈ lw_all := lw_g (lw_at lw_m1 46 rfl) rfl
theorem q224 : (Jvm.Cond.initialized "java/lang/System") ∈ lw_all := lw_g (lw_at lw_m1 47 rfl) rfl
theorem q225 : (Jvm.Cond.initialized "java/util/Objects") ∈ lw_all := lw_g (lw_at lw_m1 48 rfl) rfl
theorem q226 : (Jvm.Cond.initialized "jdk/internal/util/Preconditions") ∈ lw_all := lw_g (lw_at lw_m1 49 rfl) rfl
theorem q227 : (Jvm.Cond.initialized "LandMap$Exact") ∈ lw_all := lw_g (lw_at lw_m1 50 rfl) rfl
theorem q228 : (Jvm.Cond.initialized "LandMapModel$Text") ∈ lw_all := lw_g (lw_at lw_m1 51 rfl) rfl
theorem q229 : (Jvm.Cond.initialized "LandMapModel$FeatureText") ∈ lw_all := lw_g (lw_at lw_m1 52 rfl) rfl
theorem q230 : (Jvm.Cond.initialized "java/lang/Number") ∈ lw_all := lw_g (lw_at lw_m1 53 rfl) rfl
theorem q231 : (Jvm.Cond.initialized "java/lang/Integer") ∈ lw_all := lw_g (lw_at lw_m1 54 rfl) rfl
theorem q232 : (Jvm.Cond.initialized "java/lang/Integer$IntegerCache") ∈ lw_all := lw_g (lw_at lw_m1 55 rfl) rfl
theorem q233 : (Jvm.Cond.initialized "LandMapModel$Feature") ∈ lw_all := lw_g (lw_at lw_m1 56 rfl) rfl
theorem q234 : (Jvm.Cond.initialized "LandMap$Raster") ∈ lw_all := lw_g (lw_at lw_m1 57 rfl) rfl
theorem q235 : (Jvm.Cond.initialized "LandMapModel$Raster") ∈ lw_all := lw_g (lw_at lw_m1 58 rfl) rfl
theorem q236 : (Jvm.Cond.initialized "java/lang/AbstractStringBuilder") ∈ lw_all := lw_g (lw_at lw_m1 59 rfl) rfl
theorem q237 : (Jvm.Cond.initialized "java/lang/StringBuilder") ∈ lw_all := lw_g (lw_at lw_m1 60 rfl) rfl
theorem q238 : (Jvm.Cond.initialized "java/lang/String") ∈ lw_all := lw_g (lw_at lw_m1 61 rfl) rfl
theorem q239 : (Jvm.Cond.initialized "java/lang/StringUTF16") ∈ lw_all := lw_g (lw_at lw_m1 62 rfl) rfl
theorem q240 : (Jvm.Cond.initialized "java/lang/StringLatin1") ∈ lw_all := lw_g (lw_at lw_m1 63 rfl) rfl
theorem q241 : (Jvm.Cond.initialized "LandMapModel$Algebra") ∈ lw_all := lw_g (lw_at lw_m1 64 rfl) rfl
theorem q242 : (Jvm.Cond.classLink "LandMapLaw" (7 : Nat) "LandMap") ∈ lw_all := lw_g (lw_at lw_m1 65 rfl) rfl
theorem q243 : (Jvm.Cond.instantiable "LandMap" (31 : Nat)) ∈ lw_all := lw_g (lw_at lw_m1 66 rfl) rfl
theorem q244 : (Jvm.Cond.methodLink "LandMapLaw" (9 : Nat) ({ cls := "LandMap", name := "<init>", desc := "()V" } : Jvm.MethodName)) ∈ lw_all := lw_g (lw_at lw_m1 67 rfl) rfl
theorem q245 : (Jvm.Cond.instanceMethod ({ cls := "LandMap", name := "<init>", desc := "()V" } : Jvm.MethodName)) ∈ lw_all := lw_g (lw_at lw_m1 68 rfl) rfl
theorem q246 : (Jvm.Cond.code ({ cls := "LandMap", name := "<init>", desc := "()V" } : Jvm.MethodName) prog_1_method_1_code (1 : Nat) (Option.none : Option Jvm.ClassFile.FieldType)) ∈ lw_all := lw_g (lw_at lw_m1 69 rfl) rfl
theorem q247 : (Jvm.Cond.methodLink "LandMap" (1 : Nat) ({ cls := "java/lang/Object", name := "<init>", desc := "()V" } : Jvm.MethodName)) ∈ lw_all := lw_g (lw_at lw_m1 70 rfl) rfl
theorem q248 : (Jvm.Cond.instanceMethod ({ cls := "java/lang/Object", name := "<init>", desc := "()V" } : Jvm.MethodName)) ∈ lw_all := lw_g (lw_at lw_m1 71 rfl) rfl
theorem q249 : (Jvm.Cond.code ({ cls := "java/lang/Object", name := "<init>", desc := "()V" } : Jvm.MethodName) object_method_1_code (1 : Nat) (Option.none : Option Jvm.ClassFile.FieldType)) ∈ lw_all := lw_g (lw_at lw_m1 72 rfl) rfl
theorem q250 : (Jvm.Cond.classLink "LandMap" (13 : Nat) "LandMap$Stop") ∈ lw_all := lw_g (lw_at lw_m1 73 rfl) rfl
theorem q251 : (Jvm.Cond.instantiable "LandMap$Stop" (3 : Nat)) ∈ lw_all := lw_g (lw_at lw_m1 74 rfl) rfl
theorem q252 : (Jvm.Cond.methodLinkNest "LandMap" (15 : Nat) ({ cls := "LandMap$Stop", name := "<init>", desc := "()V" } : Jvm.MethodName) "LandMap") ∈ lw_tbl := lw_at lw_m1 75 rfl
theorem q253 : (Jvm.Cond.instanceMethod ({ cls := "LandMap$Stop", name := "<init>", desc := "()V" } : Jvm.MethodName)) ∈ lw_all := lw_g (lw_at lw_m1 76 rfl) rfl
theorem q254 : (Jvm.Cond.code ({ cls := "LandMap$Stop", name := "<init>", desc := "()V" } : Jvm.MethodName) prog_24_method_1_code (1 : Nat) (Option.none : Option Jvm.ClassFile.FieldType)) ∈ lw_all := lw_g (lw_at lw_m1 77 rfl) rfl
theorem q255 : (Jvm.Cond.methodLink "LandMap$Stop" (1 : Nat) ({ cls := "java/lang/Object", name := "<init>", desc := "()V" } : Jvm.MethodName)) ∈ lw_all := lw_g (lw_at lw_m1 78 rfl) rfl
theorem q256 : (Jvm.Cond.classLink "LandMap$Stop" (7 : Nat) "java/lang/IllegalStateException") ∈ lw_all := lw_g (lw_at lw_m1 79 rfl) rfl
theorem q257 : (Jvm.Cond.instantiable "java/lang/IllegalStateException" (6 : Nat)) ∈ lw_all := lw_g (lw_at lw_m1 80 rfl) rfl
theorem q258 : (Jvm.Cond.castable "java/lang/IllegalStateException" "java/lang/IllegalStateException") ∈ lw_tbl := lw_at lw_m1 81 rfl
theorem q259 : (Jvm.Cond.declares ({ cls := "java/lang/RuntimeException", name := "<init>", desc := "()V" } : Jvm.MethodName)) ∈ lw_tbl := lw_at lw_m1 82 rfl
theorem q260 : (Jvm.Cond.declares ({ cls := "java/lang/RuntimeException", name := "<init>", desc := "(Ljava/lang/String;)V" } : Jvm.MethodName)) ∈ lw_tbl := lw_at lw_m1 83 rfl
theorem q261 : (Jvm.Cond.declares ({ cls := "java/lang/Exception", name := "<init>", desc := "()V" } : Jvm.MethodName)) ∈ lw_tbl := lw_at lw_m1 84 rfl
theorem q262 : (Jvm.Cond.declares ({ cls := "java/lang/Exception", name := "<init>", desc := "(Ljava/lang/String;)V" } : Jvm.MethodName)) ∈ lw_tbl := lw_at lw_m1 85 rfl
theorem q263 : (Jvm.Cond.declares ({ cls := "java/lang/Throwable", name := "<init>", desc := "()V" } : Jvm.MethodName)) ∈ lw_tbl := lw_at lw_m1 86 rfl
theorem q264 : (Jvm.Cond.declares ({ cls := "java/lang/Throwable", name := "<init>", desc := "(Ljava/lang/String;)V" } : Jvm.MethodName)) ∈ lw_tbl := lw_at lw_m1 87 rfl
theorem q265 : (Jvm.Cond.selects "java/lang/IllegalStateException" ({ cls := "java/lang/Throwable", name := "fillInStackTrace", desc := "(I)Ljava/lang/Throwable;" } : Jvm.MethodName) ({ cls := "java/lang/Throwable", name := "fillInStackTrace", desc := "(I)Ljava/lang/Throwable;" } : Jvm.MethodName)) ∈ lw_all := lw_g (lw_at lw_m1 88 rfl) rfl
theorem q266 : (Jvm.Cond.selects "java/lang/IllegalStateException" ({ cls := "java/lang/Throwable", name := "fillInStackTrace", desc := "()Ljava/lang/Throwable;" } : Jvm.MethodName) ({ cls := "java/lang/Throwable", name := "fillInStackTrace", desc := "()Ljava/lang/Throwable;" } : Jvm.MethodName)) ∈ lw_all := lw_g (lw_at lw_m1 89 rfl) rfl
theorem q267 : (Jvm.Cond.lays "java/lang/IllegalStateException" "java/lang/Throwable" "cause" "Ljava/lang/Throwable;") ∈ lw_all := lw_g (lw_at lw_m1 90 rfl) rfl
theorem q268 : (Jvm.Cond.lays "java/lang/Throwable" "java/lang/Throwable" "cause" "Ljava/lang/Throwable;") ∈ lw_all := lw_g (lw_at lw_m1 91 rfl) rfl
theorem q269 : (Jvm.Cond.lays "java/lang/IllegalStateException" "java/lang/Throwable" "stackTrace" "[Ljava/lang/StackTraceElement;") ∈ lw_all := lw_g (lw_at lw_m1 92 rfl) rfl
theorem q270 : (Jvm.Cond.lays "java/lang/Throwable" "java/lang/Throwable" "stackTrace" "[Ljava/lang/StackTraceElement;") ∈ lw_all := lw_g (lw_at lw_m1 93 rfl) rfl
theorem q271 : (Jvm.Cond.lays "java/lang/IllegalStateException" "java/lang/Throwable" "suppressedExceptions" "Ljava/util/List;") ∈ lw_all := lw_g (lw_at lw_m1 94 rfl) rfl
theorem q272 : (Jvm.Cond.lays "java/lang/Throwable" "java/lang/Throwable" "suppressedExceptions" "Ljava/util/List;") ∈ lw_all := lw_g (lw_at lw_m1 95 rfl) rfl
theorem q273 : (Jvm.Cond.lays "java/lang/IllegalStateException" "java/lang/Throwable" "detailMessage" "Ljava/lang/String;") ∈ lw_all := lw_g (lw_at lw_m1 96 rfl) rfl
theorem q274 : (Jvm.Cond.lays "java/lang/Throwable" "java/lang/Throwable" "detailMessage" "Ljava/lang/String;") ∈ lw_all := lw_g (lw_at lw_m1 97 rfl) rfl
theorem q275 : (Jvm.Cond.lays "java/lang/IllegalStateException" "java/lang/Throwable" "backtrace" "Ljava/lang/Object;") ∈ lw_all := lw_g (lw_at lw_m1 98 rfl) rfl
theorem q276 : (Jvm.Cond.lays "java/lang/Throwable" "java/lang/Throwable" "backtrace" "Ljava/lang/Object;") ∈ lw_all := lw_g (lw_at lw_m1 99 rfl) rfl
theorem q277 : (Jvm.Cond.fieldLink "java/lang/Throwable" (198 : Nat) "java/lang/Throwable" "backtrace" "Ljava/lang/Object;") ∈ lw_all := lw_g (lw_at lw_m1 100 rfl) rfl
theorem q278 : (Jvm.Cond.superclass "java/lang/Throwable" "java/lang/Object") ∈ lw_all := lw_g (lw_at lw_m1 101 rfl) rfl
theorem q279 : (Jvm.Cond.instanceMethod ({ cls := "java/lang/Throwable", name := "<init>", desc := "()V" } : Jvm.MethodName)) ∈ lw_all := lw_g (lw_at lw_m1 102 rfl) rfl
theorem q280 : (Jvm.Cond.code ({ cls := "java/lang/Throwable", name := "<init>", desc := "()V" } : Jvm.MethodName) prog_65_method_1_code (1 : Nat) (Option.none : Option Jvm.ClassFile.FieldType)) ∈ lw_all := lw_g (lw_at lw_m1 103 rfl) rfl
theorem q281 : (Jvm.Cond.methodLink "java/lang/Throwable" (1 : Nat) ({ cls := "java/lang/Object", name := "<init>", desc := "()V" } : Jvm.MethodName)) ∈ lw_all := lw_g (lw_at lw_m1 104 rfl) rfl
theorem q282 : (Jvm.Cond.fieldLink "java/lang/Throwable" (13 : Nat) "java/lang/Throwable" "UNASSIGNED_STACK" "[Ljava/lang/StackTraceElement;") ∈ lw_all := lw_g (lw_at lw_m1 105 rfl) rfl
theorem q283 : (Jvm.Cond.laysStatic "java/lang/Throwable" "UNASSIGNED_STACK" "[Ljava/lang/StackTraceElement;") ∈ lw_tbl := lw_at lw_m1 106 rfl
theorem q284 : (Jvm.Cond.fieldLink "java/lang/Throwable" (20 : Nat) "java/lang/Throwable" "SUPPRESSED_SENTINEL" "Ljava/util/List;") ∈ lw_all := lw_g (lw_at lw_m1 107 rfl) rfl
theorem q285 : (Jvm.Cond.laysStatic "java/lang/Throwable" "SUPPRESSED_SENTINEL" "Ljava/util/List;") ∈ lw_tbl := lw_at lw_m1 108 rfl
theorem q286 : (Jvm.Cond.methodLink "java/lang/Throwable" (27 : Nat) ({ cls := "java/lang/Throwable", name := "fillInStackTrace", desc := "()Ljava/lang/Throwable;" } : Jvm.MethodName)) ∈ lw_all := lw_g (lw_at lw_m1 109 rfl) rfl
theorem q287 : (Jvm.Cond.instanceMethod ({ cls := "java/lang/Throwable", name := "fillInStackTrace", desc := "()Ljava/lang/Throwable;" } : Jvm.MethodName)) ∈ lw_all := lw_g (lw_at lw_m1 110 rfl) rfl
theorem q288 : (Jvm.Cond.sameMethod "java/lang/Throwable" "java/lang/Throwable" "fillInStackTrace" "()Ljava/lang/Throwable;") ∈ lw_all := lw_g (lw_at lw_m1 111 rfl) rfl
theorem q289 : (Jvm.Cond.codeSync ({ cls := "java/lang/Throwable", name := "fillInStackTrace", desc := "()Ljava/lang/Throwable;" } : Jvm.MethodName) prog_65_method_18_code (1 : Nat) (Option.some (Jvm.ClassFile.FieldType.object "java/lang/Throwable"))) ∈ lw_all := lw_g (lw_at lw_m1 112 rfl) rfl
theorem q290 : (Jvm.Cond.methodLink "java/lang/Throwable" (202 : Nat) ({ cls := "java/lang/Throwable", name := "fillInStackTrace", desc := "(I)Ljava/lang/Throwable;" } : Jvm.MethodName)) ∈ lw_all := lw_g (lw_at lw_m1 113 rfl) rfl
theorem q291 : (Jvm.Cond.privateMethod ({ cls := "java/lang/Throwable", name := "fillInStackTrace", desc := "(I)Ljava/lang/Throwable;" } : Jvm.MethodName)) ∈ lw_tbl := lw_at lw_m1 114 rfl
theorem q292 : (Jvm.Cond.instanceMethod ({ cls := "java/lang/Throwable", name := "fillInStackTrace", desc := "(I)Ljava/lang/Throwable;" } : Jvm.MethodName)) ∈ lw_all := lw_g (lw_at lw_m1 115 rfl) rfl
theorem q293 : (Jvm.Cond.instantiable "java/lang/Throwable" (6 : Nat)) ∈ lw_all := lw_g (lw_at lw_m1 116 rfl) rfl
theorem q294 : (Jvm.Cond.native ({ cls := "java/lang/Throwable", name := "fillInStackTrace", desc := "(I)Ljava/lang/Throwable;" } : Jvm.MethodName)) ∈ lw_all := lw_g (lw_at lw_m1 117 rfl) rfl
theorem q295 : (Jvm.Cond.methodLink "LandMap$Stop" (9 : Nat) ({ cls := "java/lang/IllegalStateException", name := "<init>", desc := "()V" } : Jvm.MethodName)) ∈ lw_all := lw_g (lw_at lw_m1 118 rfl) rfl
theorem q296 : (Jvm.Cond.instanceMethod ({ cls := "java/lang/IllegalStateException", name := "<init>", desc := "()V" } : Jvm.MethodName)) ∈ lw_all := lw_g (lw_at lw_m1 119 rfl) rfl
theorem q297 : (Jvm.Cond.code ({ cls := "java/lang/IllegalStateException", name := "<init>", desc := "()V" } : Jvm.MethodName) prog_52_method_1_code (1 : Nat) (Option.none : Option Jvm.ClassFile.FieldType)) ∈ lw_all := lw_g (lw_at lw_m1 120 rfl) rfl
theorem q298 : (Jvm.Cond.methodLink "java/lang/IllegalStateException" (1 : Nat) ({ cls := "java/lang/RuntimeException", name := "<init>", desc := "()V" } : Jvm.MethodName)) ∈ lw_all := lw_g (lw_at lw_m1 121 rfl) rfl
theorem q299 : (Jvm.Cond.instanceMethod ({ cls := "java/lang/RuntimeException", name := "<init>", desc := "()V" } : Jvm.MethodName)) ∈ lw_all := lw_g (lw_at lw_m1 122 rfl) rfl
theorem q300 : (Jvm.Cond.code ({ cls := "java/lang/RuntimeException", name := "<init>", desc := "()V" } : Jvm.MethodName) prog_58_method_1_code (1 : Nat) (Option.none : Option Jvm.ClassFile.FieldType)) ∈ lw_all := lw_g (lw_at lw_m1 123 rfl) rfl
theorem q301 : (Jvm.Cond.methodLink "java/lang/RuntimeException" (1 : Nat) ({ cls := "java/lang/Exception", name := "<init>", desc := "()V" } : Jvm.MethodName)) ∈ lw_all := lw_g (lw_at lw_m1 124 rfl) rfl
theorem q302 : (Jvm.Cond.instanceMethod ({ cls := "java/lang/Exception", name := "<init>", desc := "()V" } : Jvm.MethodName)) ∈ lw_all := lw_g (lw_at lw_m1 125 rfl) rfl
theorem q303 : (Jvm.Cond.code ({ cls := "java/lang/Exception", name := "<init>", desc := "()V" } : Jvm.MethodName) prog_51_method_1_code (1 : Nat) (Option.none : Option Jvm.ClassFile.FieldType)) ∈ lw_all := lw_g (lw_at lw_m1 126 rfl) rfl
theorem q304 : (Jvm.Cond.methodLink "java/lang/Exception" (1 : Nat) ({ cls := "java/lang/Throwable", name := "<init>", desc := "()V" } : Jvm.MethodName)) ∈ lw_all := lw_g (lw_at lw_m1 127 rfl) rfl
theorem q306 : (Jvm.Cond.fieldLink "java/lang/Throwable" (7 : Nat) "java/lang/Throwable" "cause" "Ljava/lang/Throwable;") ∈ lw_all := lw_g (lw_at lw_m1 129 rfl) rfl
theorem q307 : (Jvm.Cond.fieldLink "java/lang/Throwable" (17 : Nat) "java/lang/Throwable" "stackTrace" "[Ljava/lang/StackTraceElement;") ∈ lw_all := lw_g (lw_at lw_m1 130 rfl) rfl
theorem q308 : (Jvm.Cond.fieldLink "java/lang/Throwable" (24 : Nat) "java/lang/Throwable" "suppressedExceptions" "Ljava/util/List;") ∈ lw_all := lw_g (lw_at lw_m1 131 rfl) rfl
theorem q309 : (Jvm.Cond.soleField "java/lang/Throwable" "backtrace") ∈ lw_all := lw_g (lw_at lw_m1 132 rfl) rfl
theorem q310 : (Jvm.Cond.soleField "java/lang/Throwable" "detailMessage") ∈ lw_all := lw_g (lw_at lw_m1 133 rfl) rfl
theorem q311 : (Jvm.Cond.soleField "java/lang/Throwable" "cause") ∈ lw_all := lw_g (lw_at lw_m1 134 rfl) rfl
theorem q312 : (Jvm.Cond.soleField "java/lang/Throwable" "stackTrace") ∈ lw_all := lw_g (lw_at lw_m1 135 rfl) rfl
theorem q313 : (Jvm.Cond.lays "java/lang/IllegalStateException" "java/lang/Throwable" "depth" "I") ∈ lw_all := lw_g (lw_at lw_m1 136 rfl) rfl
theorem q314 : (Jvm.Cond.soleField "java/lang/Throwable" "depth") ∈ lw_all := lw_g (lw_at lw_m1 137 rfl) rfl
theorem q315 : (Jvm.Cond.soleField "java/lang/Throwable" "suppressedExceptions") ∈ lw_all := lw_g (lw_at lw_m1 138 rfl) rfl
theorem q316 : (Jvm.Cond.superclass "java/lang/IllegalStateException" "java/lang/RuntimeException") ∈ lw_all := lw_g (lw_at lw_m1 139 rfl) rfl
theorem q317 : (Jvm.Cond.arrayClass Jvm.ClassFile.FieldType.byte) ∈ lw_all := lw_g (lw_at lw_m1 140 rfl) rfl
theorem q318 : (Jvm.Cond.fieldLink "LandMap$Stop" (10 : Nat) "LandMap$Stop" "thrown" "Ljava/lang/IllegalStateException;") ∈ lw_all := lw_g (lw_at lw_m1 141 rfl) rfl
theorem q319 : (Jvm.Cond.fieldLink "LandMap$Stop" (16 : Nat) "LandMap$Stop" "code" "I") ∈ lw_all := lw_g (lw_at lw_m1 142 rfl) rfl
theorem q320 : (Jvm.Cond.fieldLink "LandMap$Stop" (20 : Nat) "LandMap$Stop" "place" "I") ∈ lw_all := lw_g (lw_at lw_m1 143 rfl) rfl
theorem q321 : (Jvm.Cond.fieldLink "LandMap" (195 : Nat) "LandMap$Stop" "place" "I") ∈ lw_all := lw_g (lw_at lw_m1 144 rfl) rfl
theorem q322 : (Jvm.Cond.laysFinal "LandMap$Stop" "LandMap$Stop" "thrown" "Ljava/lang/IllegalStateException;") ∈ lw_all := lw_g (lw_at lw_m1 145 rfl) rfl
theorem q323 : (Jvm.Cond.soleField "LandMap$Stop" "thrown") ∈ lw_all := lw_g (lw_at lw_m1 146 rfl) rfl
theorem q324 : (Jvm.Cond.lays "LandMap$Stop" "LandMap$Stop" "code" "I") ∈ lw_all := lw_g (lw_at lw_m1 147 rfl) rfl
theorem q325 : (Jvm.Cond.soleField "LandMap$Stop" "code") ∈ lw_all := lw_g (lw_at lw_m1 148 rfl) rfl
theorem q326 : (Jvm.Cond.lays "LandMap$Stop" "LandMap$Stop" "place" "I") ∈ lw_all := lw_g (lw_at lw_m1 149 rfl) rfl
theorem q327 : (Jvm.Cond.soleField "LandMap$Stop" "place") ∈ lw_all := lw_g (lw_at lw_m1 150 rfl) rfl
theorem q328 : (Jvm.Cond.superclass "LandMap$Stop" "java/lang/Object") ∈ lw_all := lw_g (lw_at lw_m1 151 rfl) rfl
theorem q329 : (Jvm.Cond.classLink "LandMap" (20 : Nat) "LandMap$Scan") ∈ lw_all := lw_g (lw_at lw_m1 152 rfl) rfl
theorem q330 : (Jvm.Cond.instantiable "LandMap$Scan" (4 : Nat)) ∈ lw_all := lw_g (lw_at lw_m1 153 rfl) rfl
theorem q331 : (Jvm.Cond.methodLink "LandMap" (22 : Nat) ({ cls := "LandMap$Scan", name := "<init>", desc := "(LLandMap$Stop;)V" } : Jvm.MethodName)) ∈ lw_all := lw_g (lw_at lw_m1 154 rfl) rfl
theorem q332 : (Jvm.Cond.instanceMethod ({ cls := "LandMap$Scan", name := "<init>", desc := "(LLandMap$Stop;)V" } : Jvm.MethodName)) ∈ lw_all := lw_g (lw_at lw_m1 155 rfl) rfl
theorem q333 : (Jvm.Cond.code ({ cls := "LandMap$Scan", name := "<init>", desc := "(LLandMap$Stop;)V" } : Jvm.MethodName) prog_20_method_1_code (2 : Nat) (Option.none : Option Jvm.ClassFile.FieldType)) ∈ lw_all := lw_g (lw_at lw_m1 156 rfl) rfl
theorem q334 : (Jvm.Cond.methodLink "LandMap$Scan" (3 : Nat) ({ cls := "java/lang/Object", name := "<init>", desc := "()V" } : Jvm.MethodName)) ∈ lw_all := lw_g (lw_at lw_m1 157 rfl) rfl
theorem q335 : (Jvm.Cond.fieldLink "LandMap$Scan" (9 : Nat) "LandMap$Scan" "stop" "LLandMap$Stop;") ∈ lw_all := lw_g (lw_at lw_m1 158 rfl) rfl
theorem q336 : (Jvm.Cond.fieldLink "LandMap$Scan" (15 : Nat) "LandMap$Scan" "text" "[B") ∈ lw_all := lw_g (lw_at lw_m1 159 rfl) rfl
theorem q337 : (Jvm.Cond.fieldLink "LandMap$Scan" (19 : Nat) "LandMap$Scan" "size" "I") ∈ lw_all := lw_g (lw_at lw_m1 160 rfl) rfl
theorem q338 : (Jvm.Cond.fieldLink "LandMap$Scan" (23 : Nat) "LandMap$Scan" "at" "I") ∈ lw_all := lw_g (lw_at lw_m1 161 rfl) rfl
theorem q339 : (Jvm.Cond.fieldLink "LandMap$Algebra" (61 : Nat) "LandMap$Scan" "at" "I") ∈ lw_all := lw_g (lw_at lw_m1 162 rfl) rfl
theorem q340 : (Jvm.Cond.laysFinal "LandMap$Scan" "LandMap$Scan" "stop" "LLandMap$Stop;") ∈ lw_all := lw_g (lw_at lw_m1 163 rfl) rfl
theorem q341 : (Jvm.Cond.soleField "LandMap$Scan" "stop") ∈ lw_all := lw_g (lw_at lw_m1 164 rfl) rfl
theorem q342 : (Jvm.Cond.lays "LandMap$Scan" "LandMap$Scan" "text" "[B") ∈ lw_all := lw_g (lw_at lw_m1 165 rfl) rfl
theorem q343 : (Jvm.Cond.soleField "LandMap$Scan" "text") ∈ lw_all := lw_g (lw_at lw_m1 166 rfl) rfl
theorem q344 : (Jvm.Cond.lays "LandMap$Scan" "LandMap$Scan" "size" "I") ∈ lw_all := lw_g (lw_at lw_m1 167 rfl) rfl
theorem q345 : (Jvm.Cond.soleField "LandMap$Scan" "size") ∈ lw_all := lw_g (lw_at lw_m1 168 rfl) rfl
theorem q346 : (Jvm.Cond.lays "LandMap$Scan" "LandMap$Scan" "at" "I") ∈ lw_all := lw_g (lw_at lw_m1 169 rfl) rfl
theorem q347 : (Jvm.Cond.soleField "LandMap$Scan" "at") ∈ lw_all := lw_g (lw_at lw_m1 170 rfl) rfl
theorem q348 : (Jvm.Cond.superclass "LandMap$Scan" "java/lang/Object") ∈ lw_all := lw_g (lw_at lw_m1 171 rfl) rfl
theorem q349 : (Jvm.Cond.classLink "LandMap" (29 : Nat) "LandMap$FeatureTexts") ∈ lw_all := lw_g (lw_at lw_m1 172 rfl) rfl
theorem q350 : (Jvm.Cond.instantiable "LandMap$FeatureTexts" (2 : Nat)) ∈ lw_all := lw_g (lw_at lw_m1 173 rfl) rfl
theorem q351 : (Jvm.Cond.methodLink "LandMap" (31 : Nat) ({ cls := "LandMap$FeatureTexts", name := "<init>", desc := "(LLandMap$Scan;)V" } : Jvm.MethodName)) ∈ lw_all := lw_g (lw_at lw_m1 174 rfl) rfl
theorem q352 : (Jvm.Cond.instanceMethod ({ cls := "LandMap$FeatureTexts", name := "<init>", desc := "(LLandMap$Scan;)V" } : Jvm.MethodName)) ∈ lw_all := lw_g (lw_at lw_m1 175 rfl) rfl
theorem q353 : (Jvm.Cond.code ({ cls := "LandMap$FeatureTexts", name := "<init>", desc := "(LLandMap$Scan;)V" } : Jvm.MethodName) prog_8_method_1_code (2 : Nat) (Option.none : Option Jvm.ClassFile.FieldType)) ∈ lw_all := lw_g (lw_at lw_m1 176 rfl) rfl
theorem q354 : (Jvm.Cond.methodLink "LandMap$FeatureTexts" (3 : Nat) ({ cls := "java/lang/Object", name := "<init>", desc := "()V" } : Jvm.MethodName)) ∈ lw_all := lw_g (lw_at lw_m1 177 rfl) rfl
theorem q355 : (Jvm.Cond.classLink "LandMap$FeatureTexts" (9 : Nat) "LandMap$Draft") ∈ lw_all := lw_g (lw_at lw_m1 178 rfl) rfl
theorem q356 : (Jvm.Cond.instantiable "LandMap$Draft" (5 : Nat)) ∈ lw_all := lw_g (lw_at lw_m1 179 rfl) rfl
theorem q357 : (Jvm.Cond.methodLinkNest "LandMap$FeatureTexts" (11 : Nat) ({ cls := "LandMap$Draft", name := "<init>", desc := "()V" } : Jvm.MethodName) "LandMap") ∈ lw_tbl := lw_at lw_m1 180 rfl
theorem q358 : (Jvm.Cond.instanceMethod ({ cls := "LandMap$Draft", name := "<init>", desc := "()V" } : Jvm.MethodName)) ∈ lw_all := lw_g (lw_at lw_m1 181 rfl) rfl
theorem q359 : (Jvm.Cond.code ({ cls := "LandMap$Draft", name := "<init>", desc := "()V" } : Jvm.MethodName) prog_3_method_1_code (1 : Nat) (Option.none : Option Jvm.ClassFile.FieldType)) ∈ lw_all := lw_g (lw_at lw_m1 182 rfl) rfl
theorem q360 : (Jvm.Cond.methodLink "LandMap$Draft" (3 : Nat) ({ cls := "java/lang/Object", name := "<init>", desc := "()V" } : Jvm.MethodName)) ∈ lw_all := lw_g (lw_at lw_m1 183 rfl) rfl
theorem q361 : (Jvm.Cond.fieldLink "LandMap$Draft" (9 : Nat) "LandMap$Draft" "xs" "[I") ∈ lw_all := lw_g (lw_at lw_m1 184 rfl) rfl
theorem q362 : (Jvm.Cond.fieldLink "LandMap$Draft" (15 : Nat) "LandMap$Draft" "ys" "[I") ∈ lw_all := lw_g (lw_at lw_m1 185 rfl) rfl
theorem q363 : (Jvm.Cond.fieldLink "LandMap$Draft" (18 : Nat) "LandMap$Draft" "starts" "[I") ∈ lw_all := lw_g (lw_at lw_m1 186 rfl) rfl
theorem q364 : (Jvm.Cond.fieldLink "LandMap$Draft" (21 : Nat) "LandMap$Draft" "places" "I") ∈ lw_all := lw_g (lw_at lw_m1 187 rfl) rfl
theorem q365 : (Jvm.Cond.fieldLink "LandMap$Draft" (25 : Nat) "LandMap$Draft" "rows" "I") ∈ lw_all := lw_g (lw_at lw_m1 188 rfl) rfl
theorem q366 : (Jvm.Cond.laysFinal "LandMap$Draft" "LandMap$Draft" "xs" "[I") ∈ lw_all := lw_g (lw_at lw_m1 189 rfl) rfl
theorem q367 : (Jvm.Cond.soleField "LandMap$Draft" "xs") ∈ lw_all := lw_g (lw_at lw_m1 190 rfl) rfl
theorem q368 : (Jvm.Cond.laysFinal "LandMap$Draft" "LandMap$Draft" "ys" "[I") ∈ lw_all := lw_g (lw_at lw_m1 191 rfl) rfl
theorem q369 : (Jvm.Cond.soleField "LandMap$Draft" "ys") ∈ lw_all := lw_g (lw_at lw_m1 192 rfl) rfl
theorem q370 : (Jvm.Cond.laysFinal "LandMap$Draft" "LandMap$Draft" "starts" "[I") ∈ lw_all := lw_g (lw_at lw_m1 193 rfl) rfl
theorem q371 : (Jvm.Cond.soleField "LandMap$Draft" "starts") ∈ lw_all := lw_g (lw_at lw_m1 194 rfl) rfl
theorem q372 : (Jvm.Cond.lays "LandMap$Draft" "LandMap$Draft" "places" "I") ∈ lw_all := lw_g (lw_at lw_m1 195 rfl) rfl
theorem q373 : (Jvm.Cond.soleField "LandMap$Draft" "places") ∈ lw_all := lw_g (lw_at lw_m1 196 rfl) rfl
theorem q374 : (Jvm.Cond.lays "LandMap$Draft" "LandMap$Draft" "rows" "I") ∈ lw_all := lw_g (lw_at lw_m1 197 rfl) rfl
theorem q375 : (Jvm.Cond.soleField "LandMap$Draft" "rows") ∈ lw_all := lw_g (lw_at lw_m1 198 rfl) rfl
theorem q376 : (Jvm.Cond.superclass "LandMap$Draft" "java/lang/Object") ∈ lw_all := lw_g (lw_at lw_m1 199 rfl) rfl
theorem q377 : (Jvm.Cond.arrayClass Jvm.ClassFile.FieldType.int) ∈ lw_all := lw_g (lw_at lw_m1 200 rfl) rfl
theorem q378 : (Jvm.Cond.fieldLink "LandMap$FeatureTexts" (18 : Nat) "LandMap$FeatureTexts" "scan" "LLandMap$Scan;") ∈ lw_all := lw_g (lw_at lw_m1 201 rfl) rfl
theorem q379 : (Jvm.Cond.fieldLink "LandMap$FeatureTexts" (12 : Nat) "LandMap$FeatureTexts" "draft" "LLandMap$Draft;") ∈ lw_all := lw_g (lw_at lw_m1 202 rfl) rfl
theorem q380 : (Jvm.Cond.laysFinal "LandMap$FeatureTexts" "LandMap$FeatureTexts" "scan" "LLandMap$Scan;") ∈ lw_all := lw_g (lw_at lw_m1 203 rfl) rfl
theorem q381 : (Jvm.Cond.soleField "LandMap$FeatureTexts" "scan") ∈ lw_all := lw_g (lw_at lw_m1 204 rfl) rfl
theorem q382 : (Jvm.Cond.laysFinal "LandMap$FeatureTexts" "LandMap$FeatureTexts" "draft" "LLandMap$Draft;") ∈ lw_all := lw_g (lw_at lw_m1 205 rfl) rfl
theorem q383 : (Jvm.Cond.soleField "LandMap$FeatureTexts" "draft") ∈ lw_all := lw_g (lw_at lw_m1 206 rfl) rfl
theorem q384 : (Jvm.Cond.superclass "LandMap$FeatureTexts" "java/lang/Object") ∈ lw_all := lw_g (lw_at lw_m1 207 rfl) rfl
theorem q385 : (Jvm.Cond.classLink "LandMap" (38 : Nat) "java/util/ArrayList") ∈ lw_all := lw_g (lw_at lw_m1 208 rfl) rfl
theorem q386 : (Jvm.Cond.instantiable "java/util/ArrayList" (3 : Nat)) ∈ lw_all := lw_g (lw_at lw_m1 209 rfl) rfl
theorem q387 : (Jvm.Cond.methodLink "LandMap" (40 : Nat) ({ cls := "java/util/ArrayList", name := "<init>", desc := "(I)V" } : Jvm.MethodName)) ∈ lw_all := lw_g (lw_at lw_m1 210 rfl) rfl
theorem q388 : (Jvm.Cond.instanceMethod ({ cls := "java/util/ArrayList", name := "<init>", desc := "(I)V" } : Jvm.MethodName)) ∈ lw_all := lw_g (lw_at lw_m1 211 rfl) rfl
theorem q389 : (Jvm.Cond.code ({ cls := "java/util/ArrayList", name := "<init>", desc := "(I)V" } : Jvm.MethodName) prog_70_method_1_code (2 : Nat) (Option.none : Option Jvm.ClassFile.FieldType)) ∈ lw_all := lw_g (lw_at lw_m1 212 rfl) rfl
theorem q390 : (Jvm.Cond.methodLink "java/util/ArrayList" (1 : Nat) ({ cls := "java/util/AbstractList", name := "<init>", desc := "()V" } : Jvm.MethodName)) ∈ lw_all := lw_g (lw_at lw_m1 213 rfl) rfl
theorem q391 : (Jvm.Cond.instanceMethod ({ cls := "java/util/AbstractList", name := "<init>", desc := "()V" } : Jvm.MethodName)) ∈ lw_all := lw_g (lw_at lw_m1 214 rfl) rfl
theorem q392 : (Jvm.Cond.code ({ cls := "java/util/AbstractList", name := "<init>", desc := "()V" } : Jvm.MethodName) prog_69_method_1_code (1 : Nat) (Option.none : Option Jvm.ClassFile.FieldType)) ∈ lw_all := lw_g (lw_at lw_m1 215 rfl) rfl
theorem q393 : (Jvm.Cond.methodLink "java/util/AbstractList" (1 : Nat) ({ cls := "java/util/AbstractCollection", name := "<init>", desc := "()V" } : Jvm.MethodName)) ∈ lw_all := lw_g (lw_at lw_m1 216 rfl) rfl
theorem q394 : (Jvm.Cond.instanceMethod ({ cls := "java/util/AbstractCollection", name := "<init>", desc := "()V" } : Jvm.MethodName)) ∈ lw_all := lw_g (lw_at lw_m1 217 rfl) rfl
theorem q395 : (Jvm.Cond.code ({ cls := "java/util/AbstractCollection", name := "<init>", desc := "()V" } : Jvm.MethodName) prog_68_method_1_code (1 : Nat) (Option.none : Option Jvm.ClassFile.FieldType)) ∈ lw_all := lw_g (lw_at lw_m1 218 rfl) rfl
theorem q396 : (Jvm.Cond.methodLink "java/util/AbstractCollection" (1 : Nat) ({ cls := "java/lang/Object", name := "<init>", desc := "()V" } : Jvm.MethodName)) ∈ lw_all := lw_g (lw_at lw_m1 219 rfl) rfl
theorem q397 : (Jvm.Cond.classLink "java/util/ArrayList" (7 : Nat) "java/lang/Object") ∈ lw_all := lw_g (lw_at lw_m1 220 rfl) rfl
theorem q398 : (Jvm.Cond.arrayOver (Jvm.ClassFile.FieldType.object "java/lang/Object")) ∈ lw_tbl := lw_at lw_m1 221 rfl
theorem q399 : (Jvm.Cond.fieldLink "java/util/ArrayList" (15 : Nat) "java/util/ArrayList" "EMPTY_ELEMENTDATA" "[Ljava/lang/Object;") ∈ lw_all := lw_g (lw_at lw_m1 222 rfl) rfl
theorem q400 : (Jvm.Cond.laysStatic "java/util/ArrayList" "EMPTY_ELEMENTDATA" "[Ljava/lang/Object;") ∈ lw_tbl := lw_at lw_m1 223 rfl
theorem q401 : (Jvm.Cond.fieldLink "java/util/ArrayList" (9 : Nat) "java/util/ArrayList" "elementData" "[Ljava/lang/Object;") ∈ lw_all := lw_g (lw_at lw_m1 224 rfl) rfl
theorem q402 : (Jvm.Cond.fieldLink "java/util/ArrayList" (48 : Nat) "java/util/ArrayList" "size" "I") ∈ lw_all := lw_g (lw_at lw_m1 225 rfl) rfl
theorem q403 : (Jvm.Cond.fieldLink "java/util/AbstractList" (7 : Nat) "java/util/AbstractList" "modCount" "I") ∈ lw_all := lw_g (lw_at lw_m1 226 rfl) rfl
theorem q404 : (Jvm.Cond.fieldLink "java/util/ArrayList" (63 : Nat) "java/util/ArrayList" "modCount" "I") ∈ lw_all := lw_g (lw_at lw_m1 227 rfl) rfl
theorem q405 : (Jvm.Cond.sameField "java/util/ArrayList" "java/util/AbstractList" "modCount" "I") ∈ lw_all := lw_g (lw_at lw_m1 228 rfl) rfl
theorem q406 : (Jvm.Cond.lays "java/util/ArrayList" "java/util/ArrayList" "elementData" "[Ljava/lang/Object;") ∈ lw_all := lw_g (lw_at lw_m1 229 rfl) rfl
theorem q407 : (Jvm.Cond.soleField "java/util/ArrayList" "elementData") ∈ lw_all := lw_g (lw_at lw_m1 230 rfl) rfl
theorem q408 : (Jvm.Cond.lays "java/util/ArrayList" "java/util/ArrayList" "size" "I") ∈ lw_all := lw_g (lw_at lw_m1 231 rfl) rfl
theorem q409 : (Jvm.Cond.soleField "java/util/ArrayList" "size") ∈ lw_all := lw_g (lw_at lw_m1 232 rfl) rfl
theorem q410 : (Jvm.Cond.lays "java/util/ArrayList" "java/util/AbstractList" "modCount" "I") ∈ lw_all := lw_g (lw_at lw_m1 233 rfl) rfl
theorem q411 : (Jvm.Cond.soleField "java/util/AbstractList" "modCount") ∈ lw_all := lw_g (lw_at lw_m1 234 rfl) rfl
theorem q412 : (Jvm.Cond.superclass "java/util/ArrayList" "java/util/AbstractList") ∈ lw_all := lw_g (lw_at lw_m1 235 rfl) rfl
theorem q413 : (Jvm.Cond.classLink "LandMap" (47 : Nat) "LandMap$Rules") ∈ lw_all := lw_g (lw_at lw_m1 236 rfl) rfl
theorem q414 : (Jvm.Cond.instantiable "LandMap$Rules" (3 : Nat)) ∈ lw_all := lw_g (lw_at lw_m1 237 rfl) rfl
theorem q415 : (Jvm.Cond.methodLink "LandMap" (49 : Nat) ({ cls := "LandMap$Rules", name := "<init>", desc := "()V" } : Jvm.MethodName)) ∈ lw_all := lw_g (lw_at lw_m1 238 rfl) rfl
theorem q416 : (Jvm.Cond.instanceMethod ({ cls := "LandMap$Rules", name := "<init>", desc := "()V" } : Jvm.MethodName)) ∈ lw_all := lw_g (lw_at lw_m1 239 rfl) rfl
theorem q417 : (Jvm.Cond.code ({ cls := "LandMap$Rules", name := "<init>", desc := "()V" } : Jvm.MethodName) prog_19_method_1_code (1 : Nat) (Option.none : Option Jvm.ClassFile.FieldType)) ∈ lw_all := lw_g (lw_at lw_m2 0 rfl) rfl
theorem q418 : (Jvm.Cond.methodLink "LandMap$Rules" (3 : Nat) ({ cls := "java/lang/Object", name := "<init>", desc := "()V" } : Jvm.MethodName)) ∈ lw_all := lw_g (lw_at lw_m2 1 rfl) rfl
theorem q419 : (Jvm.Cond.classLink "LandMap$Rules" (20 : Nat) "LandMap$Edges") ∈ lw_all := lw_g (lw_at lw_m2 2 rfl) rfl
theorem q420 : (Jvm.Cond.instantiable "LandMap$Edges" (9 : Nat)) ∈ lw_all := lw_g (lw_at lw_m2 3 rfl) rfl
theorem q421 : (Jvm.Cond.classLink "LandMap$Rules" (22 : Nat) "LandMap$Sorter") ∈ lw_all := lw_g (lw_at lw_m2 4 rfl) rfl
theorem q422 : (Jvm.Cond.instantiable "LandMap$Sorter" (1 : Nat)) ∈ lw_all := lw_g (lw_at lw_m2 5 rfl) rfl
theorem q423 : (Jvm.Cond.methodLinkNest "LandMap$Rules" (24 : Nat) ({ cls := "LandMap$Sorter", name := "<init>", desc := "()V" } : Jvm.MethodName) "LandMap") ∈ lw_tbl := lw_at lw_m2 6 rfl
theorem q424 : (Jvm.Cond.instanceMethod ({ cls := "LandMap$Sorter", name := "<init>", desc := "()V" } : Jvm.MethodName)) ∈ lw_all := lw_g (lw_at lw_m2 7 rfl) rfl
theorem q425 : (Jvm.Cond.code ({ cls := "LandMap$Sorter", name := "<init>", desc := "()V" } : Jvm.MethodName) prog_21_method_1_code (1 : Nat) (Option.none : Option Jvm.ClassFile.FieldType)) ∈ lw_all := lw_g (lw_at lw_m2 8 rfl) rfl
theorem q426 : (Jvm.Cond.methodLink "LandMap$Sorter" (1 : Nat) ({ cls := "java/lang/Object", name := "<init>", desc := "()V" } : Jvm.MethodName)) ∈ lw_all := lw_g (lw_at lw_m2 9 rfl) rfl
theorem q427 : (Jvm.Cond.fieldLink "LandMap$Sorter" (7 : Nat) "LandMap$Sorter" "spare" "[J") ∈ lw_all := lw_g (lw_at lw_m2 10 rfl) rfl
theorem q428 : (Jvm.Cond.lays "LandMap$Sorter" "LandMap$Sorter" "spare" "[J") ∈ lw_all := lw_g (lw_at lw_m2 11 rfl) rfl
theorem q429 : (Jvm.Cond.soleField "LandMap$Sorter" "spare") ∈ lw_all := lw_g (lw_at lw_m2 12 rfl) rfl
theorem q430 : (Jvm.Cond.superclass "LandMap$Sorter" "java/lang/Object") ∈ lw_all := lw_g (lw_at lw_m2 13 rfl) rfl
theorem q431 : (Jvm.Cond.arrayClass Jvm.ClassFile.FieldType.long) ∈ lw_all := lw_g (lw_at lw_m2 14 rfl) rfl
theorem q432 : (Jvm.Cond.methodLink "LandMap$Rules" (25 : Nat) ({ cls := "LandMap$Edges", name := "<init>", desc := "(ILLandMap$Sorter;)V" } : Jvm.MethodName)) ∈ lw_all := lw_g (lw_at lw_m2 15 rfl) rfl
theorem q433 : (Jvm.Cond.instanceMethod ({ cls := "LandMap$Edges", name := "<init>", desc := "(ILLandMap$Sorter;)V" } : Jvm.MethodName)) ∈ lw_all := lw_g (lw_at lw_m2 16 rfl) rfl
theorem q434 : (Jvm.Cond.code ({ cls := "LandMap$Edges", name := "<init>", desc := "(ILLandMap$Sorter;)V" } : Jvm.MethodName) prog_4_method_1_code (3 : Nat) (Option.none : Option Jvm.ClassFile.FieldType)) ∈ lw_all := lw_g (lw_at lw_m2 17 rfl) rfl
theorem q435 : (Jvm.Cond.methodLink "LandMap$Edges" (3 : Nat) ({ cls := "java/lang/Object", name := "<init>", desc := "()V" } : Jvm.MethodName)) ∈ lw_all := lw_g (lw_at lw_m2 18 rfl) rfl
theorem q436 : (Jvm.Cond.fieldLink "LandMap$Edges" (9 : Nat) "LandMap$Edges" "x1" "[I") ∈ lw_all := lw_g (lw_at lw_m2 19 rfl) rfl
theorem q437 : (Jvm.Cond.fieldLink "LandMap$Plane" (164 : Nat) "LandMap$Edges" "x1" "[I") ∈ lw_all := lw_g (lw_at lw_m2 20 rfl) rfl
theorem q438 : (Jvm.Cond.fieldLink "LandMap$Edges" (15 : Nat) "LandMap$Edges" "y1" "[I") ∈ lw_all := lw_g (lw_at lw_m2 21 rfl) rfl
theorem q439 : (Jvm.Cond.fieldLink "LandMap$Plane" (170 : Nat) "LandMap$Edges" "y1" "[I") ∈ lw_all := lw_g (lw_at lw_m2 22 rfl) rfl
theorem q440 : (Jvm.Cond.fieldLink "LandMap$Edges" (18 : Nat) "LandMap$Edges" "x2" "[I") ∈ lw_all := lw_g (lw_at lw_m2 23 rfl) rfl
theorem q441 : (Jvm.Cond.fieldLink "LandMap$Plane" (161 : Nat) "LandMap$Edges" "x2" "[I") ∈ lw_all := lw_g (lw_at lw_m2 24 rfl) rfl
theorem q442 : (Jvm.Cond.fieldLink "LandMap$Edges" (21 : Nat) "LandMap$Edges" "y2" "[I") ∈ lw_all := lw_g (lw_at lw_m2 25 rfl) rfl
theorem q443 : (Jvm.Cond.fieldLink "LandMap$Plane" (167 : Nat) "LandMap$Edges" "y2" "[I") ∈ lw_all := lw_g (lw_at lw_m2 26 rfl) rfl
theorem q444 : (Jvm.Cond.fieldLink "LandMap$Edges" (24 : Nat) "LandMap$Edges" "source" "[I") ∈ lw_all := lw_g (lw_at lw_m2 27 rfl) rfl
theorem q445 : (Jvm.Cond.fieldLink "LandMap$Rules" (115 : Nat) "LandMap$Edges" "source" "[I") ∈ lw_all := lw_g (lw_at lw_m2 28 rfl) rfl
theorem q446 : (Jvm.Cond.fieldLink "LandMap$Plane" (231 : Nat) "LandMap$Edges" "source" "[I") ∈ lw_all := lw_g (lw_at lw_m2 29 rfl) rfl
theorem q447 : (Jvm.Cond.fieldLink "LandMap$Edges" (27 : Nat) "LandMap$Edges" "order" "[I") ∈ lw_all := lw_g (lw_at lw_m2 30 rfl) rfl
theorem q448 : (Jvm.Cond.fieldLink "LandMap$Rules" (93 : Nat) "LandMap$Edges" "order" "[I") ∈ lw_all := lw_g (lw_at lw_m2 31 rfl) rfl
theorem q449 : (Jvm.Cond.fieldLink "LandMap$Plane" (142 : Nat) "LandMap$Edges" "order" "[I") ∈ lw_all := lw_g (lw_at lw_m2 32 rfl) rfl
theorem q450 : (Jvm.Cond.fieldLink "LandMap$Edges" (30 : Nat) "LandMap$Edges" "keys" "[J") ∈ lw_all := lw_g (lw_at lw_m2 33 rfl) rfl
theorem q451 : (Jvm.Cond.fieldLink "LandMap$Edges" (34 : Nat) "LandMap$Edges" "sorter" "LLandMap$Sorter;") ∈ lw_all := lw_g (lw_at lw_m2 34 rfl) rfl
theorem q452 : (Jvm.Cond.fieldLink "LandMap$Edges" (38 : Nat) "LandMap$Edges" "size" "I") ∈ lw_all := lw_g (lw_at lw_m2 35 rfl) rfl
theorem q453 : (Jvm.Cond.fieldLink "LandMap$Plane" (85 : Nat) "LandMap$Edges" "size" "I") ∈ lw_all := lw_g (lw_at lw_m2 36 rfl) rfl
theorem q454 : (Jvm.Cond.fieldLink "LandMap$Rules" (83 : Nat) "LandMap$Edges" "size" "I") ∈ lw_all := lw_g (lw_at lw_m2 37 rfl) rfl
theorem q455 : (Jvm.Cond.laysFinal "LandMap$Edges" "LandMap$Edges" "x1" "[I") ∈ lw_all := lw_g (lw_at lw_m2 38 rfl) rfl
theorem q456 : (Jvm.Cond.soleField "LandMap$Edges" "x1") ∈ lw_all := lw_g (lw_at lw_m2 39 rfl) rfl
theorem q457 : (Jvm.Cond.laysFinal "LandMap$Edges" "LandMap$Edges" "y1" "[I") ∈ lw_all := lw_g (lw_at lw_m2 40 rfl) rfl
theorem q458 : (Jvm.Cond.soleField "LandMap$Edges" "y1") ∈ lw_all := lw_g (lw_at lw_m2 41 rfl) rfl
theorem q459 : (Jvm.Cond.laysFinal "LandMap$Edges" "LandMap$Edges" "x2" "[I") ∈ lw_all := lw_g (lw_at lw_m2 42 rfl) rfl
theorem q460 : (Jvm.Cond.soleField "LandMap$Edges" "x2") ∈ lw_all := lw_g (lw_at lw_m2 43 rfl) rfl
theorem q461 : (Jvm.Cond.laysFinal "LandMap$Edges" "LandMap$Edges" "y2" "[I") ∈ lw_all := lw_g (lw_at lw_m2 44 rfl) rfl
theorem q462 : (Jvm.Cond.soleField "LandMap$Edges" "y2") ∈ lw_all := lw_g (lw_at lw_m2 45 rfl) rfl
theorem q463 : (Jvm.Cond.laysFinal "LandMap$Edges" "LandMap$Edges" "source" "[I") ∈ lw_all := lw_g (lw_at lw_m2 46 rfl) rfl
theorem q464 : (Jvm.Cond.soleField "LandMap$Edges" "source") ∈ lw_all := lw_g (lw_at lw_m2 47 rfl) rfl
theorem q465 : (Jvm.Cond.laysFinal "LandMap$Edges" "LandMap$Edges" "order" "[I") ∈ lw_all := lw_g (lw_at lw_m2 48 rfl) rfl
theorem q466 : (Jvm.Cond.soleField "LandMap$Edges" "order") ∈ lw_all := lw_g (lw_at lw_m2 49 rfl) rfl
theorem q467 : (Jvm.Cond.laysFinal "LandMap$Edges" "LandMap$Edges" "keys" "[J") ∈ lw_all := lw_g (lw_at lw_m2 50 rfl) rfl
theorem q468 : (Jvm.Cond.soleField "LandMap$Edges" "keys") ∈ lw_all := lw_g (lw_at lw_m2 51 rfl) rfl
theorem q469 : (Jvm.Cond.laysFinal "LandMap$Edges" "LandMap$Edges" "sorter" "LLandMap$Sorter;") ∈ lw_all := lw_g (lw_at lw_m2 52 rfl) rfl
theorem q470 : (Jvm.Cond.soleField "LandMap$Edges" "sorter") ∈ lw_all := lw_g (lw_at lw_m2 53 rfl) rfl
theorem q471 : (Jvm.Cond.lays "LandMap$Edges" "LandMap$Edges" "size" "I") ∈ lw_all := lw_g (lw_at lw_m2 54 rfl) rfl
theorem q472 : (Jvm.Cond.soleField "LandMap$Edges" "size") ∈ lw_all := lw_g (lw_at lw_m2 55 rfl) rfl
theorem q473 : (Jvm.Cond.superclass "LandMap$Edges" "java/lang/Object") ∈ lw_all := lw_g (lw_at lw_m2 56 rfl) rfl
theorem q474 : (Jvm.Cond.fieldLink "LandMap$Rules" (28 : Nat) "LandMap$Rules" "edges" "LLandMap$Edges;") ∈ lw_all := lw_g (lw_at lw_m2 57 rfl) rfl
theorem q475 : (Jvm.Cond.fieldLink "LandMap$Rules" (11 : Nat) "LandMap$Rules" "group" "[I") ∈ lw_all := lw_g (lw_at lw_m2 58 rfl) rfl
theorem q476 : (Jvm.Cond.fieldLink "LandMap$Rules" (17 : Nat) "LandMap$Rules" "whole" "[I") ∈ lw_all := lw_g (lw_at lw_m2 59 rfl) rfl
theorem q477 : (Jvm.Cond.laysFinal "LandMap$Rules" "LandMap$Rules" "edges" "LLandMap$Edges;") ∈ lw_all := lw_g (lw_at lw_m2 60 rfl) rfl
theorem q478 : (Jvm.Cond.soleField "LandMap$Rules" "edges") ∈ lw_all := lw_g (lw_at lw_m2 61 rfl) rfl
theorem q479 : (Jvm.Cond.laysFinal "LandMap$Rules" "LandMap$Rules" "group" "[I") ∈ lw_all := lw_g (lw_at lw_m2 62 rfl) rfl
theorem q480 : (Jvm.Cond.soleField "LandMap$Rules" "group") ∈ lw_all := lw_g (lw_at lw_m2 63 rfl) rfl
theorem q481 : (Jvm.Cond.laysFinal "LandMap$Rules" "LandMap$Rules" "whole" "[I") ∈ lw_all := lw_g (lw_at lw_m2 64 rfl) rfl
theorem q482 : (Jvm.Cond.soleField "LandMap$Rules" "whole") ∈ lw_all := lw_g (lw_at lw_m2 65 rfl) rfl
theorem q483 : (Jvm.Cond.superclass "LandMap$Rules" "java/lang/Object") ∈ lw_all := lw_g (lw_at lw_m2 66 rfl) rfl
theorem q484 : (Jvm.Cond.classLink "LandMap" (54 : Nat) "LandMap$Relation") ∈ lw_all := lw_g (lw_at lw_m2 67 rfl) rfl
theorem q485 : (Jvm.Cond.instantiable "LandMap$Relation" (3 : Nat)) ∈ lw_all := lw_g (lw_at lw_m2 68 rfl) rfl
theorem q486 : (Jvm.Cond.methodLinkNest "LandMap" (56 : Nat) ({ cls := "LandMap$Relation", name := "<init>", desc := "()V" } : Jvm.MethodName) "LandMap") ∈ lw_tbl := lw_at lw_m2 69 rfl
theorem q487 : (Jvm.Cond.instanceMethod ({ cls := "LandMap$Relation", name := "<init>", desc := "()V" } : Jvm.MethodName)) ∈ lw_all := lw_g (lw_at lw_m2 70 rfl) rfl
theorem q488 : (Jvm.Cond.code ({ cls := "LandMap$Relation", name := "<init>", desc := "()V" } : Jvm.MethodName) prog_17_method_1_code (1 : Nat) (Option.none : Option Jvm.ClassFile.FieldType)) ∈ lw_all := lw_g (lw_at lw_m2 71 rfl) rfl
theorem q489 : (Jvm.Cond.methodLink "LandMap$Relation" (3 : Nat) ({ cls := "java/lang/Object", name := "<init>", desc := "()V" } : Jvm.MethodName)) ∈ lw_all := lw_g (lw_at lw_m2 72 rfl) rfl
theorem q490 : (Jvm.Cond.fieldLink "LandMap$Relation" (27 : Nat) "LandMap$Relation" "plane" "LLandMap$Plane;") ∈ lw_all := lw_g (lw_at lw_m2 73 rfl) rfl
theorem q491 : (Jvm.Cond.fieldLink "LandMap$Relation" (32 : Nat) "LandMap$Relation" "faces" "LLandMap$Faces;") ∈ lw_all := lw_g (lw_at lw_m2 74 rfl) rfl
theorem q492 : (Jvm.Cond.fieldLink "LandMap$Relation" (9 : Nat) "LandMap$Relation" "entries" "[I") ∈ lw_all := lw_g (lw_at lw_m2 75 rfl) rfl
theorem q493 : (Jvm.Cond.lays "LandMap$Relation" "LandMap$Relation" "plane" "LLandMap$Plane;") ∈ lw_all := lw_g (lw_at lw_m2 76 rfl) rfl
theorem q494 : (Jvm.Cond.soleField "LandMap$Relation" "plane") ∈ lw_all := lw_g (lw_at lw_m2 77 rfl) rfl
theorem q495 : (Jvm.Cond.lays "LandMap$Relation" "LandMap$Relation" "faces" "LLandMap$Faces;") ∈ lw_all := lw_g (lw_at lw_m2 78 rfl) rfl
theorem q496 : (Jvm.Cond.soleField "LandMap$Relation" "faces") ∈ lw_all := lw_g (lw_at lw_m2 79 rfl) rfl
theorem q497 : (Jvm.Cond.laysFinal "LandMap$Relation" "LandMap$Relation" "entries" "[I") ∈ lw_all := lw_g (lw_at lw_m2 80 rfl) rfl
theorem q498 : (Jvm.Cond.soleField "LandMap$Relation" "entries") ∈ lw_all := lw_g (lw_at lw_m2 81 rfl) rfl
theorem q499 : (Jvm.Cond.superclass "LandMap$Relation" "java/lang/Object") ∈ lw_all := lw_g (lw_at lw_m2 82 rfl) rfl
theorem q500 : (Jvm.Cond.classLink "LandMap" (61 : Nat) "LandMap$Overlay") ∈ lw_all := lw_g (lw_at lw_m2 83 rfl) rfl
theorem q501 : (Jvm.Cond.instantiable "LandMap$Overlay" (20 : Nat)) ∈ lw_all := lw_g (lw_at lw_m2 84 rfl) rfl
theorem q502 : (Jvm.Cond.methodLinkNest "LandMap" (63 : Nat) ({ cls := "LandMap$Overlay", name := "<init>", desc := "()V" } : Jvm.MethodName) "LandMap") ∈ lw_tbl := lw_at lw_m2 85 rfl
theorem q503 : (Jvm.Cond.instanceMethod ({ cls := "LandMap$Overlay", name := "<init>", desc := "()V" } : Jvm.MethodName)) ∈ lw_all := lw_g (lw_at lw_m2 86 rfl) rfl
theorem q504 : (Jvm.Cond.code ({ cls := "LandMap$Overlay", name := "<init>", desc := "()V" } : Jvm.MethodName) prog_13_method_1_code (1 : Nat) (Option.none : Option Jvm.ClassFile.FieldType)) ∈ lw_all := lw_g (lw_at lw_m2 87 rfl) rfl
theorem q505 : (Jvm.Cond.methodLink "LandMap$Overlay" (3 : Nat) ({ cls := "java/lang/Object", name := "<init>", desc := "()V" } : Jvm.MethodName)) ∈ lw_all := lw_g (lw_at lw_m2 88 rfl) rfl
theorem q506 : (Jvm.Cond.constant "LandMap$Overlay" (38 : Nat) (40000 : Int32)) ∈ lw_all := lw_g (lw_at lw_m2 89 rfl) rfl
theorem q507 : (Jvm.Cond.fieldLink "LandMap$Overlay" (69 : Nat) "LandMap$Overlay" "plane" "LLandMap$Plane;") ∈ lw_all := lw_g (lw_at lw_m2 90 rfl) rfl
theorem q508 : (Jvm.Cond.fieldLink "LandMap$Overlay" (74 : Nat) "LandMap$Overlay" "faces" "LLandMap$Faces;") ∈ lw_all := lw_g (lw_at lw_m2 91 rfl) rfl
theorem q509 : (Jvm.Cond.fieldLink "LandMap$Overlay" (11 : Nat) "LandMap$Overlay" "group" "[I") ∈ lw_all := lw_g (lw_at lw_m2 92 rfl) rfl
theorem q510 : (Jvm.Cond.fieldLink "LandMap$Overlay" (17 : Nat) "LandMap$Overlay" "whole" "[I") ∈ lw_all := lw_g (lw_at lw_m2 93 rfl) rfl
theorem q511 : (Jvm.Cond.fieldLink "LandMap$Overlay" (20 : Nat) "LandMap$Overlay" "leastA" "[I") ∈ lw_all := lw_g (lw_at lw_m2 94 rfl) rfl
theorem q512 : (Jvm.Cond.fieldLink "LandMap$Overlay" (23 : Nat) "LandMap$Overlay" "leastB" "[I") ∈ lw_all := lw_g (lw_at lw_m2 95 rfl) rfl
theorem q513 : (Jvm.Cond.fieldLink "LandMap$Overlay" (26 : Nat) "LandMap$Overlay" "isDone" "[Z") ∈ lw_all := lw_g (lw_at lw_m2 96 rfl) rfl
theorem q514 : (Jvm.Cond.fieldLink "LandMap$Overlay" (30 : Nat) "LandMap$Overlay" "stack" "[I") ∈ lw_all := lw_g (lw_at lw_m2 97 rfl) rfl
theorem q515 : (Jvm.Cond.fieldLink "LandMap$Overlay" (35 : Nat) "LandMap$Overlay" "seenAt" "[I") ∈ lw_all := lw_g (lw_at lw_m2 98 rfl) rfl
theorem q516 : (Jvm.Cond.fieldLink "LandMap$Overlay" (131 : Nat) "LandMap$Overlay" "height" "I") ∈ lw_all := lw_g (lw_at lw_m2 99 rfl) rfl
theorem q517 : (Jvm.Cond.fieldLink "LandMap$Overlay" (39 : Nat) "LandMap$Overlay" "xs" "[I") ∈ lw_all := lw_g (lw_at lw_m2 100 rfl) rfl
theorem q518 : (Jvm.Cond.fieldLink "LandMap$Overlay" (42 : Nat) "LandMap$Overlay" "ys" "[I") ∈ lw_all := lw_g (lw_at lw_m2 101 rfl) rfl
theorem q519 : (Jvm.Cond.fieldLink "LandMap$Overlay" (45 : Nat) "LandMap$Overlay" "from" "[I") ∈ lw_all := lw_g (lw_at lw_m2 102 rfl) rfl
theorem q520 : (Jvm.Cond.fieldLink "LandMap$Overlay" (48 : Nat) "LandMap$Overlay" "ringWhole" "[I") ∈ lw_all := lw_g (lw_at lw_m2 103 rfl) rfl
theorem q521 : (Jvm.Cond.fieldLink "LandMap$Overlay" (51 : Nat) "LandMap$Overlay" "isFirst" "[Z") ∈ lw_all := lw_g (lw_at lw_m2 104 rfl) rfl
theorem q522 : (Jvm.Cond.fieldLink "LandMap$Overlay" (114 : Nat) "LandMap$Overlay" "rings" "I") ∈ lw_all := lw_g (lw_at lw_m2 105 rfl) rfl
theorem q523 : (Jvm.Cond.fieldLink "LandMap$Overlay" (54 : Nat) "LandMap$Overlay" "order" "[I") ∈ lw_all := lw_g (lw_at lw_m2 106 rfl) rfl
theorem q524 : (Jvm.Cond.fieldLink "LandMap$Overlay" (57 : Nat) "LandMap$Overlay" "values" "[I") ∈ lw_all := lw_g (lw_at lw_m2 107 rfl) rfl
theorem q525 : (Jvm.Cond.fieldLink "LandMap$Overlay" (60 : Nat) "LandMap$Overlay" "sizes" "[I") ∈ lw_all := lw_g (lw_at lw_m2 108 rfl) rfl
theorem q526 : (Jvm.Cond.fieldLink "LandMap$Overlay" (92 : Nat) "LandMap$Overlay" "wholes" "I") ∈ lw_all := lw_g (lw_at lw_m2 109 rfl) rfl
theorem q527 : (Jvm.Cond.fieldLinkNest "LandMap" (388 : Nat) "LandMap$Overlay" "wholes" "I" "LandMap") ∈ lw_tbl := lw_at lw_m2 110 rfl
theorem q528 : (Jvm.Cond.lays "LandMap$Overlay" "LandMap$Overlay" "plane" "LLandMap$Plane;") ∈ lw_all := lw_g (lw_at lw_m2 111 rfl) rfl
theorem q529 : (Jvm.Cond.soleField "LandMap$Overlay" "plane") ∈ lw_all := lw_g (lw_at lw_m2 112 rfl) rfl
theorem q530 : (Jvm.Cond.lays "LandMap$Overlay" "LandMap$Overlay" "faces" "LLandMap$Faces;") ∈ lw_all := lw_g (lw_at lw_m2 113 rfl) rfl
theorem q531 : (Jvm.Cond.soleField "LandMap$Overlay" "faces") ∈ lw_all := lw_g (lw_at lw_m2 114 rfl) rfl
theorem q532 : (Jvm.Cond.laysFinal "LandMap$Overlay" "LandMap$Overlay" "group" "[I") ∈ lw_all := lw_g (lw_at lw_m2 115 rfl) rfl
theorem q533 : (Jvm.Cond.soleField "LandMap$Overlay" "group") ∈ lw_all := lw_g (lw_at lw_m2 116 rfl) rfl
theorem q534 : (Jvm.Cond.laysFinal "LandMap$Overlay" "LandMap$Overlay" "whole" "[I") ∈ lw_all := lw_g (lw_at lw_m2 117 rfl) rfl
theorem q535 : (Jvm.Cond.soleField "LandMap$Overlay" "whole") ∈ lw_all := lw_g (lw_at lw_m2 118 rfl) rfl
theorem q536 : (Jvm.Cond.laysFinal "LandMap$Overlay" "LandMap$Overlay" "leastA" "[I") ∈ lw_all := lw_g (lw_at lw_m2 119 rfl) rfl
theorem q537 : (Jvm.Cond.soleField "LandMap$Overlay" "leastA") ∈ lw_all := lw_g (lw_at lw_m2 120 rfl) rfl
theorem q538 : (Jvm.Cond.laysFinal "LandMap$Overlay" "LandMap$Overlay" "leastB" "[I") ∈ lw_all := lw_g (lw_at lw_m2 121 rfl) rfl
theorem q539 : (Jvm.Cond.soleField "LandMap$Overlay" "leastB") ∈ lw_all := lw_g (lw_at lw_m2 122 rfl) rfl
theorem q540 : (Jvm.Cond.laysFinal "LandMap$Overlay" "LandMap$Overlay" "isDone" "[Z") ∈ lw_all := lw_g (lw_at lw_m2 123 rfl) rfl
theorem q541 : (Jvm.Cond.soleField "LandMap$Overlay" "isDone") ∈ lw_all := lw_g (lw_at lw_m2 124 rfl) rfl
theorem q542 : (Jvm.Cond.laysFinal "LandMap$Overlay" "LandMap$Overlay" "stack" "[I") ∈ lw_all := lw_g (lw_at lw_m2 125 rfl) rfl
theorem q543 : (Jvm.Cond.soleField "LandMap$Overlay" "stack") ∈ lw_all := lw_g (lw_at lw_m2 126 rfl) rfl
theorem q544 : (Jvm.Cond.laysFinal "LandMap$Overlay" "LandMap$Overlay" "seenAt" "[I") ∈ lw_all := lw_g (lw_at lw_m2 127 rfl) rfl
theorem q545 : (Jvm.Cond.soleField "LandMap$Overlay" "seenAt") ∈ lw_all := lw_g (lw_at lw_m2 128 rfl) rfl
theorem q546 : (Jvm.Cond.lays "LandMap$Overlay" "LandMap$Overlay" "height" "I") ∈ lw_all := lw_g (lw_at lw_m2 129 rfl) rfl
theorem q547 : (Jvm.Cond.soleField "LandMap$Overlay" "height") ∈ lw_all := lw_g (lw_at lw_m2 130 rfl) rfl
theorem q548 : (Jvm.Cond.laysFinal "LandMap$Overlay" "LandMap$Overlay" "xs" "[I") ∈ lw_all := lw_g (lw_at lw_m2 131 rfl) rfl
theorem q549 : (Jvm.Cond.soleField "LandMap$Overlay" "xs") ∈ lw_all := lw_g (lw_at lw_m2 132 rfl) rfl
theorem q550 : (Jvm.Cond.laysFinal "LandMap$Overlay" "LandMap$Overlay" "ys" "[I") ∈ lw_all := lw_g (lw_at lw_m2 133 rfl) rfl
theorem q551 : (Jvm.Cond.soleField "LandMap$Overlay" "ys") ∈ lw_all := lw_g (lw_at lw_m2 134 rfl) rfl
theorem q552 : (Jvm.Cond.laysFinal "LandMap$Overlay" "LandMap$Overlay" "from" "[I") ∈ lw_all := lw_g (lw_at lw_m2 135 rfl) rfl
theorem q553 : (Jvm.Cond.soleField "LandMap$Overlay" "from") ∈ lw_all := lw_g (lw_at lw_m2 136 rfl) rfl
theorem q554 : (Jvm.Cond.laysFinal "LandMap$Overlay" "LandMap$Overlay" "ringWhole" "[I") ∈ lw_all := lw_g (lw_at lw_m2 137 rfl) rfl
theorem q555 : (Jvm.Cond.soleField "LandMap$Overlay" "ringWhole") ∈ lw_all := lw_g (lw_at lw_m2 138 rfl) rfl
theorem q556 : (Jvm.Cond.laysFinal "LandMap$Overlay" "LandMap$Overlay" "isFirst" "[Z") ∈ lw_all := lw_g (lw_at lw_m2 139 rfl) rfl
theorem q557 : (Jvm.Cond.soleField "LandMap$Overlay" "isFirst") ∈ lw_all := lw_g (lw_at lw_m2 140 rfl) rfl
theorem q558 : (Jvm.Cond.lays "LandMap$Overlay" "LandMap$Overlay" "rings" "I") ∈ lw_all := lw_g (lw_at lw_m2 141 rfl) rfl
theorem q559 : (Jvm.Cond.soleField "LandMap$Overlay" "rings") ∈ lw_all := lw_g (lw_at lw_m2 142 rfl) rfl
theorem q560 : (Jvm.Cond.laysFinal "LandMap$Overlay" "LandMap$Overlay" "order" "[I") ∈ lw_all := lw_g (lw_at lw_m2 143 rfl) rfl
theorem q561 : (Jvm.Cond.soleField "LandMap$Overlay" "order") ∈ lw_all := lw_g (lw_at lw_m2 144 rfl) rfl
theorem q562 : (Jvm.Cond.laysFinal "LandMap$Overlay" "LandMap$Overlay" "values" "[I") ∈ lw_all := lw_g (lw_at lw_m2 145 rfl) rfl
theorem q563 : (Jvm.Cond.soleField "LandMap$Overlay" "values") ∈ lw_all := lw_g (lw_at lw_m2 146 rfl) rfl
theorem q564 : (Jvm.Cond.laysFinal "LandMap$Overlay" "LandMap$Overlay" "sizes" "[I") ∈ lw_all := lw_g (lw_at lw_m2 147 rfl) rfl
theorem q565 : (Jvm.Cond.soleField "LandMap$Overlay" "sizes") ∈ lw_all := lw_g (lw_at lw_m2 148 rfl) rfl
theorem q566 : (Jvm.Cond.lays "LandMap$Overlay" "LandMap$Overlay" "wholes" "I") ∈ lw_all := lw_g (lw_at lw_m2 149 rfl) rfl
theorem q567 : (Jvm.Cond.soleField "LandMap$Overlay" "wholes") ∈ lw_all := lw_g (lw_at lw_m2 150 rfl) rfl
theorem q568 : (Jvm.Cond.superclass "LandMap$Overlay" "java/lang/Object") ∈ lw_all := lw_g (lw_at lw_m2 151 rfl) rfl
theorem q569 : (Jvm.Cond.arrayClass Jvm.ClassFile.FieldType.boolean) ∈ lw_all := lw_g (lw_at lw_m2 152 rfl) rfl
theorem q570 : (Jvm.Cond.classLink "LandMap" (68 : Nat) "LandMap$Roads") ∈ lw_all := lw_g (lw_at lw_m2 153 rfl) rfl
theorem q571 : (Jvm.Cond.instantiable "LandMap$Roads" (11 : Nat)) ∈ lw_all := lw_g (lw_at lw_m2 154 rfl) rfl
theorem q572 : (Jvm.Cond.methodLinkNest "LandMap" (70 : Nat) ({ cls := "LandMap$Roads", name := "<init>", desc := "()V" } : Jvm.MethodName) "LandMap") ∈ lw_tbl := lw_at lw_m2 155 rfl
theorem q573 : (Jvm.Cond.instanceMethod ({ cls := "LandMap$Roads", name := "<init>", desc := "()V" } : Jvm.MethodName)) ∈ lw_all := lw_g (lw_at lw_m2 156 rfl) rfl
theorem q574 : (Jvm.Cond.code ({ cls := "LandMap$Roads", name := "<init>", desc := "()V" } : Jvm.MethodName) prog_18_method_1_code (1 : Nat) (Option.none : Option Jvm.ClassFile.FieldType)) ∈ lw_all := lw_g (lw_at lw_m2 157 rfl) rfl
theorem q575 : (Jvm.Cond.methodLink "LandMap$Roads" (5 : Nat) ({ cls := "java/lang/Object", name := "<init>", desc := "()V" } : Jvm.MethodName)) ∈ lw_all := lw_g (lw_at lw_m2 158 rfl) rfl
theorem q576 : (Jvm.Cond.classLink "LandMap$Roads" (33 : Nat) "LandMap$Heap") ∈ lw_all := lw_g (lw_at lw_m2 159 rfl) rfl
theorem q577 : (Jvm.Cond.instantiable "LandMap$Heap" (5 : Nat)) ∈ lw_all := lw_g (lw_at lw_m2 160 rfl) rfl
theorem q578 : (Jvm.Cond.methodLink "LandMap$Roads" (35 : Nat) ({ cls := "LandMap$Heap", name := "<init>", desc := "(I)V" } : Jvm.MethodName)) ∈ lw_all := lw_g (lw_at lw_m2 161 rfl) rfl
theorem q579 : (Jvm.Cond.instanceMethod ({ cls := "LandMap$Heap", name := "<init>", desc := "(I)V" } : Jvm.MethodName)) ∈ lw_all := lw_g (lw_at lw_m2 162 rfl) rfl
theorem q580 : (Jvm.Cond.code ({ cls := "LandMap$Heap", name := "<init>", desc := "(I)V" } : Jvm.MethodName) prog_9_method_1_code (2 : Nat) (Option.none : Option Jvm.ClassFile.FieldType)) ∈ lw_all := lw_g (lw_at lw_m2 163 rfl) rfl
theorem q581 : (Jvm.Cond.methodLink "LandMap$Heap" (1 : Nat) ({ cls := "java/lang/Object", name := "<init>", desc := "()V" } : Jvm.MethodName)) ∈ lw_all := lw_g (lw_at lw_m2 164 rfl) rfl
theorem q582 : (Jvm.Cond.fieldLink "LandMap$Heap" (7 : Nat) "LandMap$Heap" "cost" "[J") ∈ lw_all := lw_g (lw_at lw_m2 165 rfl) rfl
theorem q583 : (Jvm.Cond.fieldLink "LandMap$Spread" (67 : Nat) "LandMap$Heap" "cost" "[J") ∈ lw_all := lw_g (lw_at lw_m2 166 rfl) rfl
theorem q584 : (Jvm.Cond.fieldLink "LandMap$Roads" (155 : Nat) "LandMap$Heap" "cost" "[J") ∈ lw_all := lw_g (lw_at lw_m2 167 rfl) rfl
theorem q585 : (Jvm.Cond.fieldLink "LandMap$Heap" (13 : Nat) "LandMap$Heap" "steps" "[I") ∈ lw_all := lw_g (lw_at lw_m2 168 rfl) rfl
theorem q586 : (Jvm.Cond.fieldLink "LandMap$Roads" (172 : Nat) "LandMap$Heap" "steps" "[I") ∈ lw_all := lw_g (lw_at lw_m2 169 rfl) rfl
theorem q587 : (Jvm.Cond.fieldLink "LandMap$Heap" (17 : Nat) "LandMap$Heap" "heap" "[I") ∈ lw_all := lw_g (lw_at lw_m2 170 rfl) rfl
theorem q588 : (Jvm.Cond.fieldLink "LandMap$Heap" (20 : Nat) "LandMap$Heap" "at" "[I") ∈ lw_all := lw_g (lw_at lw_m2 171 rfl) rfl
theorem q589 : (Jvm.Cond.fieldLink "LandMap$Heap" (27 : Nat) "LandMap$Heap" "size" "I") ∈ lw_all := lw_g (lw_at lw_m2 172 rfl) rfl
theorem q590 : (Jvm.Cond.laysFinal "LandMap$Heap" "LandMap$Heap" "cost" "[J") ∈ lw_all := lw_g (lw_at lw_m2 173 rfl) rfl
theorem q591 : (Jvm.Cond.soleField "LandMap$Heap" "cost") ∈ lw_all := lw_g (lw_at lw_m2 174 rfl) rfl
theorem q592 : (Jvm.Cond.laysFinal "LandMap$Heap" "LandMap$Heap" "steps" "[I") ∈ lw_all := lw_g (lw_at lw_m2 175 rfl) rfl
theorem q593 : (Jvm.Cond.soleField "LandMap$Heap" "steps") ∈ lw_all := lw_g (lw_at lw_m2 176 rfl) rfl
theorem q594 : (Jvm.Cond.laysFinal "LandMap$Heap" "LandMap$Heap" "heap" "[I") ∈ lw_all := lw_g (lw_at lw_m2 177 rfl) rfl
theorem q595 : (Jvm.Cond.soleField "LandMap$Heap" "heap") ∈ lw_all := lw_g (lw_at lw_m2 178 rfl) rfl
theorem q596 : (Jvm.Cond.laysFinal "LandMap$Heap" "LandMap$Heap" "at" "[I") ∈ lw_all := lw_g (lw_at lw_m2 179 rfl) rfl
theorem q597 : (Jvm.Cond.soleField "LandMap$Heap" "at") ∈ lw_all := lw_g (lw_at lw_m2 180 rfl) rfl
theorem q598 : (Jvm.Cond.lays "LandMap$Heap" "LandMap$Heap" "size" "I") ∈ lw_all := lw_g (lw_at lw_m2 181 rfl) rfl
theorem q599 : (Jvm.Cond.soleField "LandMap$Heap" "size") ∈ lw_all := lw_g (lw_at lw_m2 182 rfl) rfl
theorem q600 : (Jvm.Cond.superclass "LandMap$Heap" "java/lang/Object") ∈ lw_all := lw_g (lw_at lw_m2 183 rfl) rfl
theorem q601 : (Jvm.Cond.fieldLink "LandMap$Roads" (55 : Nat) "LandMap$Roads" "plane" "LLandMap$Plane;") ∈ lw_all := lw_g (lw_at lw_m2 184 rfl) rfl
theorem q602 : (Jvm.Cond.fieldLink "LandMap$Roads" (60 : Nat) "LandMap$Roads" "faces" "LLandMap$Faces;") ∈ lw_all := lw_g (lw_at lw_m2 185 rfl) rfl
theorem q603 : (Jvm.Cond.fieldLink "LandMap$Roads" (11 : Nat) "LandMap$Roads" "costs" "[J") ∈ lw_all := lw_g (lw_at lw_m2 186 rfl) rfl
theorem q604 : (Jvm.Cond.fieldLink "LandMap$Roads" (17 : Nat) "LandMap$Roads" "isRoad" "[Z") ∈ lw_all := lw_g (lw_at lw_m2 187 rfl) rfl
theorem q605 : (Jvm.Cond.fieldLink "LandMap$Roads" (21 : Nat) "LandMap$Roads" "bars" "[I") ∈ lw_all := lw_g (lw_at lw_m2 188 rfl) rfl
theorem q606 : (Jvm.Cond.fieldLink "LandMap$Roads" (25 : Nat) "LandMap$Roads" "barNodes" "[I") ∈ lw_all := lw_g (lw_at lw_m2 189 rfl) rfl
theorem q607 : (Jvm.Cond.fieldLink "LandMap$Roads" (30 : Nat) "LandMap$Roads" "hasBar" "[Z") ∈ lw_all := lw_g (lw_at lw_m2 190 rfl) rfl
theorem q608 : (Jvm.Cond.fieldLink "LandMap$Roads" (45 : Nat) "LandMap$Roads" "barCount" "I") ∈ lw_all := lw_g (lw_at lw_m2 191 rfl) rfl
theorem q609 : (Jvm.Cond.fieldLink "LandMap" (417 : Nat) "LandMap$Roads" "barCount" "I") ∈ lw_all := lw_g (lw_at lw_m2 192 rfl) rfl
theorem q610 : (Jvm.Cond.fieldLink "LandMap$Roads" (38 : Nat) "LandMap$Roads" "heap" "LLandMap$Heap;") ∈ lw_all := lw_g (lw_at lw_m2 193 rfl) rfl
theorem q611 : (Jvm.Cond.fieldLink "LandMap$Roads" (42 : Nat) "LandMap$Roads" "row" "[I") ∈ lw_all := lw_g (lw_at lw_m2 194 rfl) rfl
theorem q612 : (Jvm.Cond.fieldLink "LandMap$Roads" (112 : Nat) "LandMap$Roads" "rowLength" "I") ∈ lw_all := lw_g (lw_at lw_m2 195 rfl) rfl
theorem q613 : (Jvm.Cond.lays "LandMap$Roads" "LandMap$Roads" "plane" "LLandMap$Plane;") ∈ lw_all := lw_g (lw_at lw_m2 196 rfl) rfl
theorem q614 : (Jvm.Cond.soleField "LandMap$Roads" "plane") ∈ lw_all := lw_g (lw_at lw_m2 197 rfl) rfl
theorem q615 : (Jvm.Cond.lays "LandMap$Roads" "LandMap$Roads" "faces" "LLandMap$Faces;") ∈ lw_all := lw_g (lw_at lw_m2 198 rfl) rfl
theorem q616 : (Jvm.Cond.soleField "LandMap$Roads" "faces") ∈ lw_all := lw_g (lw_at lw_m2 199 rfl) rfl
theorem q617 : (Jvm.Cond.laysFinal "LandMap$Roads" "LandMap$Roads" "costs" "[J") ∈ lw_all := lw_g (lw_at lw_m2 200 rfl) rfl
theorem q618 : (Jvm.Cond.soleField "LandMap$Roads" "costs") ∈ lw_all := lw_g (lw_at lw_m2 201 rfl) rfl
theorem q619 : (Jvm.Cond.laysFinal "LandMap$Roads" "LandMap$Roads" "isRoad" "[Z") ∈ lw_all := lw_g (lw_at lw_m2 202 rfl) rfl
theorem q620 : (Jvm.Cond.soleField "LandMap$Roads" "isRoad") ∈ lw_all := lw_g (lw_at lw_m2 203 rfl) rfl
theorem q621 : (Jvm.Cond.laysFinal "LandMap$Roads" "LandMap$Roads" "bars" "[I") ∈ lw_all := lw_g (lw_at lw_m2 204 rfl) rfl
theorem q622 : (Jvm.Cond.soleField "LandMap$Roads" "bars") ∈ lw_all := lw_g (lw_at lw_m2 205 rfl) rfl
theorem q623 : (Jvm.Cond.laysFinal "LandMap$Roads" "LandMap$Roads" "barNodes" "[I") ∈ lw_all := lw_g (lw_at lw_m2 206 rfl) rfl
theorem q624 : (Jvm.Cond.soleField "LandMap$Roads" "barNodes") ∈ lw_all := lw_g (lw_at lw_m2 207 rfl) rfl
theorem q625 : (Jvm.Cond.laysFinal "LandMap$Roads" "LandMap$Roads" "hasBar" "[Z") ∈ lw_all := lw_g (lw_at lw_m2 208 rfl) rfl
theorem q626 : (Jvm.Cond.soleField "LandMap$Roads" "hasBar") ∈ lw_all := lw_g (lw_at lw_m2 209 rfl) rfl
theorem q627 : (Jvm.Cond.lays "LandMap$Roads" "LandMap$Roads" "barCount" "I") ∈ lw_all := lw_g (lw_at lw_m2 210 rfl) rfl
theorem q628 : (Jvm.Cond.soleField "LandMap$Roads" "barCount") ∈ lw_all := lw_g (lw_at lw_m2 211 rfl) rfl
theorem q629 : (Jvm.Cond.laysFinal "LandMap$Roads" "LandMap$Roads" "heap" "LLandMap$Heap;") ∈ lw_all := lw_g (lw_at lw_m2 212 rfl) rfl
theorem q630 : (Jvm.Cond.soleField "LandMap$Roads" "heap") ∈ lw_all := lw_g (lw_at lw_m2 213 rfl) rfl
theorem q631 : (Jvm.Cond.laysFinal "LandMap$Roads" "LandMap$Roads" "row" "[I") ∈ lw_all := lw_g (lw_at lw_m2 214 rfl) rfl
theorem q632 : (Jvm.Cond.soleField "LandMap$Roads" "row") ∈ lw_all := lw_g (lw_at lw_m2 215 rfl) rfl
theorem q633 : (Jvm.Cond.lays "LandMap$Roads" "LandMap$Roads" "rowLength" "I") ∈ lw_all := lw_g (lw_at lw_m2 216 rfl) rfl
theorem q634 : (Jvm.Cond.soleField "LandMap$Roads" "rowLength") ∈ lw_all := lw_g (lw_at lw_m2 217 rfl) rfl
theorem q635 : (Jvm.Cond.superclass "LandMap$Roads" "java/lang/Object") ∈ lw_all := lw_g (lw_at lw_m2 218 rfl) rfl
theorem q636 : (Jvm.Cond.classLink "LandMap" (75 : Nat) "LandMap$Draft") ∈ lw_all := lw_g (lw_at lw_m2 219 rfl) rfl
theorem q637 : (Jvm.Cond.methodLinkNest "LandMap" (77 : Nat) ({ cls := "LandMap$Draft", name := "<init>", desc := "()V" } : Jvm.MethodName) "LandMap") ∈ lw_tbl := lw_at lw_m2 220 rfl
theorem q638 : (Jvm.Cond.classLink "LandMap" (82 : Nat) "LandMap$Laid") ∈ lw_all := lw_g (lw_at lw_m2 221 rfl) rfl
theorem q639 : (Jvm.Cond.instantiable "LandMap$Laid" (2 : Nat)) ∈ lw_all := lw_g (lw_at lw_m2 222 rfl) rfl
theorem q640 : (Jvm.Cond.methodLinkNest "LandMap" (84 : Nat) ({ cls := "LandMap$Laid", name := "<init>", desc := "()V" } : Jvm.MethodName) "LandMap") ∈ lw_tbl := lw_at lw_m2 223 rfl
theorem q641 : (Jvm.Cond.instanceMethod ({ cls := "LandMap$Laid", name := "<init>", desc := "()V" } : Jvm.MethodName)) ∈ lw_all := lw_g (lw_at lw_m2 224 rfl) rfl
theorem q642 : (Jvm.Cond.code ({ cls := "LandMap$Laid", name := "<init>", desc := "()V" } : Jvm.MethodName) prog_11_method_1_code (1 : Nat) (Option.none : Option Jvm.ClassFile.FieldType)) ∈ lw_all := lw_g (lw_at lw_m2 225 rfl) rfl
theorem q643 : (Jvm.Cond.methodLink "LandMap$Laid" (1 : Nat) ({ cls := "java/lang/Object", name := "<init>", desc := "()V" } : Jvm.MethodName)) ∈ lw_all := lw_g (lw_at lw_m2 226 rfl) rfl
theorem q644 : (Jvm.Cond.classLink "LandMap$Laid" (7 : Nat) "LandMap$Plane") ∈ lw_all := lw_g (lw_at lw_m2 227 rfl) rfl
theorem q645 : (Jvm.Cond.instantiable "LandMap$Plane" (23 : Nat)) ∈ lw_all := lw_g (lw_at lw_m2 228 rfl) rfl
theorem q646 : (Jvm.Cond.methodLinkNest "LandMap$Laid" (9 : Nat) ({ cls := "LandMap$Plane", name := "<init>", desc := "()V" } : Jvm.MethodName) "LandMap") ∈ lw_tbl := lw_at lw_m2 229 rfl
theorem q647 : (Jvm.Cond.instanceMethod ({ cls := "LandMap$Plane", name := "<init>", desc := "()V" } : Jvm.MethodName)) ∈ lw_all := lw_g (lw_at lw_m2 230 rfl) rfl
theorem q648 : (Jvm.Cond.code ({ cls := "LandMap$Plane", name := "<init>", desc := "()V" } : Jvm.MethodName) prog_15_method_1_code (1 : Nat) (Option.none : Option Jvm.ClassFile.FieldType)) ∈ lw_all := lw_g (lw_at lw_m2 231 rfl) rfl
theorem q649 : (Jvm.Cond.methodLink "LandMap$Plane" (3 : Nat) ({ cls := "java/lang/Object", name := "<init>", desc := "()V" } : Jvm.MethodName)) ∈ lw_all := lw_g (lw_at lw_m2 232 rfl) rfl
theorem q650 : (Jvm.Cond.classLink "LandMap$Plane" (9 : Nat) "LandMap$Sorter") ∈ lw_all := lw_g (lw_at lw_m2 233 rfl) rfl
theorem q651 : (Jvm.Cond.methodLinkNest "LandMap$Plane" (11 : Nat) ({ cls := "LandMap$Sorter", name := "<init>", desc := "()V" } : Jvm.MethodName) "LandMap") ∈ lw_tbl := lw_at lw_m2 234 rfl
theorem q652 : (Jvm.Cond.classLink "LandMap$Plane" (18 : Nat) "LandMap$Edges") ∈ lw_all := lw_g (lw_at lw_m2 235 rfl) rfl
theorem q653 : (Jvm.Cond.methodLink "LandMap$Plane" (20 : Nat) ({ cls := "LandMap$Edges", name := "<init>", desc := "(ILLandMap$Sorter;)V" } : Jvm.MethodName)) ∈ lw_all := lw_g (lw_at lw_m2 236 rfl) rfl
theorem q654 : (Jvm.Cond.classLink "LandMap$Plane" (27 : Nat) "LandMap$HotSet") ∈ lw_all := lw_g (lw_at lw_m2 237 rfl) rfl
theorem q655 : (Jvm.Cond.instantiable "LandMap$HotSet" (3 : Nat)) ∈ lw_all := lw_g (lw_at lw_m2 238 rfl) rfl
theorem q656 : (Jvm.Cond.methodLinkNest "LandMap$Plane" (29 : Nat) ({ cls := "LandMap$HotSet", name := "<init>", desc := "()V" } : Jvm.MethodName) "LandMap") ∈ lw_tbl := lw_at lw_m2 239 rfl
theorem q657 : (Jvm.Cond.instanceMethod ({ cls := "LandMap$HotSet", name := "<init>", desc := "()V" } : Jvm.MethodName)) ∈ lw_all := lw_g (lw_at lw_m3 0 rfl) rfl
theorem q658 : (Jvm.Cond.code ({ cls := "LandMap$HotSet", name := "<init>", desc := "()V" } : Jvm.MethodName) prog_10_method_1_code (1 : Nat) (Option.none : Option Jvm.ClassFile.FieldType)) ∈ lw_all := lw_g (lw_at lw_m3 1 rfl) rfl
theorem q659 : (Jvm.Cond.methodLink "LandMap$HotSet" (3 : Nat) ({ cls := "java/lang/Object", name := "<init>", desc := "()V" } : Jvm.MethodName)) ∈ lw_all := lw_g (lw_at lw_m3 2 rfl) rfl
theorem q660 : (Jvm.Cond.fieldLink "LandMap$HotSet" (11 : Nat) "LandMap$HotSet" "table" "[J") ∈ lw_all := lw_g (lw_at lw_m3 3 rfl) rfl
theorem q661 : (Jvm.Cond.fieldLink "LandMap$HotSet" (15 : Nat) "LandMap$HotSet" "keys" "[J") ∈ lw_all := lw_g (lw_at lw_m3 4 rfl) rfl
theorem q662 : (Jvm.Cond.fieldLink "LandMap$Plane" (179 : Nat) "LandMap$HotSet" "keys" "[J") ∈ lw_all := lw_g (lw_at lw_m3 5 rfl) rfl
theorem q663 : (Jvm.Cond.fieldLink "LandMap$HotSet" (23 : Nat) "LandMap$HotSet" "size" "I") ∈ lw_all := lw_g (lw_at lw_m3 6 rfl) rfl
theorem q664 : (Jvm.Cond.fieldLink "LandMap$Plane" (182 : Nat) "LandMap$HotSet" "size" "I") ∈ lw_all := lw_g (lw_at lw_m3 7 rfl) rfl
theorem q665 : (Jvm.Cond.laysFinal "LandMap$HotSet" "LandMap$HotSet" "table" "[J") ∈ lw_all := lw_g (lw_at lw_m3 8 rfl) rfl
theorem q666 : (Jvm.Cond.soleField "LandMap$HotSet" "table") ∈ lw_all := lw_g (lw_at lw_m3 9 rfl) rfl
theorem q667 : (Jvm.Cond.laysFinal "LandMap$HotSet" "LandMap$HotSet" "keys" "[J") ∈ lw_all := lw_g (lw_at lw_m3 10 rfl) rfl
theorem q668 : (Jvm.Cond.soleField "LandMap$HotSet" "keys") ∈ lw_all := lw_g (lw_at lw_m3 11 rfl) rfl
theorem q669 : (Jvm.Cond.lays "LandMap$HotSet" "LandMap$HotSet" "size" "I") ∈ lw_all := lw_g (lw_at lw_m3 12 rfl) rfl
theorem q670 : (Jvm.Cond.soleField "LandMap$HotSet" "size") ∈ lw_all := lw_g (lw_at lw_m3 13 rfl) rfl
theorem q671 : (Jvm.Cond.superclass "LandMap$HotSet" "java/lang/Object") ∈ lw_all := lw_g (lw_at lw_m3 14 rfl) rfl
theorem q672 : (Jvm.Cond.classLink "LandMap$Plane" (34 : Nat) "LandMap$Part") ∈ lw_all := lw_g (lw_at lw_m3 15 rfl) rfl
theorem q673 : (Jvm.Cond.instantiable "LandMap$Part" (6 : Nat)) ∈ lw_all := lw_g (lw_at lw_m3 16 rfl) rfl
theorem q674 : (Jvm.Cond.methodLinkNest "LandMap$Plane" (36 : Nat) ({ cls := "LandMap$Part", name := "<init>", desc := "()V" } : Jvm.MethodName) "LandMap") ∈ lw_tbl := lw_at lw_m3 17 rfl
theorem q675 : (Jvm.Cond.instanceMethod ({ cls := "LandMap$Part", name := "<init>", desc := "()V" } : Jvm.MethodName)) ∈ lw_all := lw_g (lw_at lw_m3 18 rfl) rfl
theorem q676 : (Jvm.Cond.code ({ cls := "LandMap$Part", name := "<init>", desc := "()V" } : Jvm.MethodName) prog_14_method_1_code (1 : Nat) (Option.none : Option Jvm.ClassFile.FieldType)) ∈ lw_all := lw_g (lw_at lw_m3 19 rfl) rfl
theorem q677 : (Jvm.Cond.methodLink "LandMap$Part" (1 : Nat) ({ cls := "java/lang/Object", name := "<init>", desc := "()V" } : Jvm.MethodName)) ∈ lw_all := lw_g (lw_at lw_m3 20 rfl) rfl
theorem q678 : (Jvm.Cond.fieldLink "LandMap$Part" (7 : Nat) "LandMap$Part" "loUp" "J") ∈ lw_all := lw_g (lw_at lw_m3 21 rfl) rfl
theorem q679 : (Jvm.Cond.fieldLink "LandMap$Part" (13 : Nat) "LandMap$Part" "loDown" "J") ∈ lw_all := lw_g (lw_at lw_m3 22 rfl) rfl
theorem q680 : (Jvm.Cond.fieldLink "LandMap$Part" (16 : Nat) "LandMap$Part" "hiUp" "J") ∈ lw_all := lw_g (lw_at lw_m3 23 rfl) rfl
theorem q681 : (Jvm.Cond.fieldLink "LandMap$Part" (19 : Nat) "LandMap$Part" "hiDown" "J") ∈ lw_all := lw_g (lw_at lw_m3 24 rfl) rfl
theorem q682 : (Jvm.Cond.fieldLink "LandMap$Part" (22 : Nat) "LandMap$Part" "loOpen" "Z") ∈ lw_all := lw_g (lw_at lw_m3 25 rfl) rfl
theorem q683 : (Jvm.Cond.fieldLink "LandMap$Part" (26 : Nat) "LandMap$Part" "hiOpen" "Z") ∈ lw_all := lw_g (lw_at lw_m3 26 rfl) rfl
theorem q684 : (Jvm.Cond.lays "LandMap$Part" "LandMap$Part" "loUp" "J") ∈ lw_all := lw_g (lw_at lw_m3 27 rfl) rfl
theorem q685 : (Jvm.Cond.soleField "LandMap$Part" "loUp") ∈ lw_all := lw_g (lw_at lw_m3 28 rfl) rfl
theorem q686 : (Jvm.Cond.lays "LandMap$Part" "LandMap$Part" "loDown" "J") ∈ lw_all := lw_g (lw_at lw_m3 29 rfl) rfl
theorem q687 : (Jvm.Cond.soleField "LandMap$Part" "loDown") ∈ lw_all := lw_g (lw_at lw_m3 30 rfl) rfl
theorem q688 : (Jvm.Cond.lays "LandMap$Part" "LandMap$Part" "hiUp" "J") ∈ lw_all := lw_g (lw_at lw_m3 31 rfl) rfl
theorem q689 : (Jvm.Cond.soleField "LandMap$Part" "hiUp") ∈ lw_all := lw_g (lw_at lw_m3 32 rfl) rfl
theorem q690 : (Jvm.Cond.lays "LandMap$Part" "LandMap$Part" "hiDown" "J") ∈ lw_all := lw_g (lw_at lw_m3 33 rfl) rfl
theorem q691 : (Jvm.Cond.soleField "LandMap$Part" "hiDown") ∈ lw_all := lw_g (lw_at lw_m3 34 rfl) rfl
theorem q692 : (Jvm.Cond.lays "LandMap$Part" "LandMap$Part" "loOpen" "Z") ∈ lw_all := lw_g (lw_at lw_m3 35 rfl) rfl
theorem q693 : (Jvm.Cond.soleField "LandMap$Part" "loOpen") ∈ lw_all := lw_g (lw_at lw_m3 36 rfl) rfl
theorem q694 : (Jvm.Cond.lays "LandMap$Part" "LandMap$Part" "hiOpen" "Z") ∈ lw_all := lw_g (lw_at lw_m3 37 rfl) rfl
theorem q695 : (Jvm.Cond.soleField "LandMap$Part" "hiOpen") ∈ lw_all := lw_g (lw_at lw_m3 38 rfl) rfl
theorem q696 : (Jvm.Cond.superclass "LandMap$Part" "java/lang/Object") ∈ lw_all := lw_g (lw_at lw_m3 39 rfl) rfl
theorem q697 : (Jvm.Cond.classLink "LandMap$Plane" (41 : Nat) "LandMap$Feature") ∈ lw_all := lw_g (lw_at lw_m3 40 rfl) rfl
theorem q698 : (Jvm.Cond.arrayOver (Jvm.ClassFile.FieldType.object "LandMap$Feature")) ∈ lw_tbl := lw_at lw_m3 41 rfl
theorem q699 : (Jvm.Cond.fieldLink "LandMap$Plane" (12 : Nat) "LandMap$Plane" "sorter" "LLandMap$Sorter;") ∈ lw_all := lw_g (lw_at lw_m3 42 rfl) rfl
theorem q700 : (Jvm.Cond.fieldLink "LandMap$Plane" (23 : Nat) "LandMap$Plane" "edges" "LLandMap$Edges;") ∈ lw_all := lw_g (lw_at lw_m3 43 rfl) rfl
theorem q701 : (Jvm.Cond.fieldLink "LandMap$Plane" (30 : Nat) "LandMap$Plane" "hot" "LLandMap$HotSet;") ∈ lw_all := lw_g (lw_at lw_m3 44 rfl) rfl
theorem q702 : (Jvm.Cond.fieldLink "LandMap$Plane" (37 : Nat) "LandMap$Plane" "part" "LLandMap$Part;") ∈ lw_all := lw_g (lw_at lw_m3 45 rfl) rfl
theorem q703 : (Jvm.Cond.fieldLink "LandMap$Plane" (43 : Nat) "LandMap$Plane" "of" "[LLandMap$Feature;") ∈ lw_all := lw_g (lw_at lw_m3 46 rfl) rfl
theorem q704 : (Jvm.Cond.fieldLink "LandMap$Roads" (74 : Nat) "LandMap$Plane" "of" "[LLandMap$Feature;") ∈ lw_all := lw_g (lw_at lw_m3 47 rfl) rfl
theorem q705 : (Jvm.Cond.fieldLink "LandMap$Overlay" (94 : Nat) "LandMap$Plane" "of" "[LLandMap$Feature;") ∈ lw_all := lw_g (lw_at lw_m3 48 rfl) rfl
theorem q706 : (Jvm.Cond.fieldLink "LandMap$Relation" (80 : Nat) "LandMap$Plane" "of" "[LLandMap$Feature;") ∈ lw_all := lw_g (lw_at lw_m3 49 rfl) rfl
theorem q707 : (Jvm.Cond.fieldLink "LandMap" (470 : Nat) "LandMap$Plane" "of" "[LLandMap$Feature;") ∈ lw_all := lw_g (lw_at lw_m3 50 rfl) rfl
theorem q708 : (Jvm.Cond.fieldLink "LandMap$Plane" (47 : Nat) "LandMap$Plane" "side" "[I") ∈ lw_all := lw_g (lw_at lw_m3 51 rfl) rfl
theorem q709 : (Jvm.Cond.fieldLink "LandMap$Roads" (71 : Nat) "LandMap$Plane" "side" "[I") ∈ lw_all := lw_g (lw_at lw_m3 52 rfl) rfl
theorem q710 : (Jvm.Cond.fieldLink "LandMap$Faces" (209 : Nat) "LandMap$Plane" "side" "[I") ∈ lw_all := lw_g (lw_at lw_m3 53 rfl) rfl
theorem q711 : (Jvm.Cond.fieldLink "LandMap$Plane" (51 : Nat) "LandMap$Plane" "number" "[I") ∈ lw_all := lw_g (lw_at lw_m3 54 rfl) rfl
theorem q712 : (Jvm.Cond.fieldLink "LandMap" (371 : Nat) "LandMap$Plane" "number" "[I") ∈ lw_all := lw_g (lw_at lw_m3 55 rfl) rfl
theorem q713 : (Jvm.Cond.fieldLink "LandMap$Plane" (89 : Nat) "LandMap$Plane" "sources" "I") ∈ lw_all := lw_g (lw_at lw_m3 56 rfl) rfl
theorem q714 : (Jvm.Cond.fieldLink "LandMap$Faces" (206 : Nat) "LandMap$Plane" "sources" "I") ∈ lw_all := lw_g (lw_at lw_m3 57 rfl) rfl
theorem q715 : (Jvm.Cond.fieldLink "LandMap$Plane" (54 : Nat) "LandMap$Plane" "xs" "[I") ∈ lw_all := lw_g (lw_at lw_m3 58 rfl) rfl
theorem q716 : (Jvm.Cond.fieldLink "LandMap$Roads" (100 : Nat) "LandMap$Plane" "xs" "[I") ∈ lw_all := lw_g (lw_at lw_m3 59 rfl) rfl
theorem q717 : (Jvm.Cond.fieldLink "LandMap$Faces" (107 : Nat) "LandMap$Plane" "xs" "[I") ∈ lw_all := lw_g (lw_at lw_m3 60 rfl) rfl
theorem q718 : (Jvm.Cond.fieldLink "LandMap$Relation" (99 : Nat) "LandMap$Plane" "xs" "[I") ∈ lw_all := lw_g (lw_at lw_m3 61 rfl) rfl
theorem q719 : (Jvm.Cond.fieldLink "LandMap$Overlay" (146 : Nat) "LandMap$Plane" "xs" "[I") ∈ lw_all := lw_g (lw_at lw_m3 62 rfl) rfl
theorem q720 : (Jvm.Cond.fieldLink "LandMap" (344 : Nat) "LandMap$Plane" "xs" "[I") ∈ lw_all := lw_g (lw_at lw_m3 63 rfl) rfl
theorem q721 : (Jvm.Cond.fieldLink "LandMap$Plane" (57 : Nat) "LandMap$Plane" "ys" "[I") ∈ lw_all := lw_g (lw_at lw_m3 64 rfl) rfl
theorem q722 : (Jvm.Cond.fieldLink "LandMap$Roads" (103 : Nat) "LandMap$Plane" "ys" "[I") ∈ lw_all := lw_g (lw_at lw_m3 65 rfl) rfl
theorem q723 : (Jvm.Cond.fieldLink "LandMap$Faces" (113 : Nat) "LandMap$Plane" "ys" "[I") ∈ lw_all := lw_g (lw_at lw_m3 66 rfl) rfl
theorem q724 : (Jvm.Cond.fieldLink "LandMap$Relation" (103 : Nat) "LandMap$Plane" "ys" "[I") ∈ lw_all := lw_g (lw_at lw_m3 67 rfl) rfl
theorem q725 : (Jvm.Cond.fieldLink "LandMap$Overlay" (147 : Nat) "LandMap$Plane" "ys" "[I") ∈ lw_all := lw_g (lw_at lw_m3 68 rfl) rfl
theorem q726 : (Jvm.Cond.fieldLink "LandMap" (345 : Nat) "LandMap$Plane" "ys" "[I") ∈ lw_all := lw_g (lw_at lw_m3 69 rfl) rfl
theorem q727 : (Jvm.Cond.fieldLink "LandMap$Relation" (66 : Nat) "LandMap$Plane" "nodes" "I") ∈ lw_all := lw_g (lw_at lw_m3 70 rfl) rfl
theorem q728 : (Jvm.Cond.fieldLink "LandMap$Overlay" (117 : Nat) "LandMap$Plane" "nodes" "I") ∈ lw_all := lw_g (lw_at lw_m3 71 rfl) rfl
theorem q729 : (Jvm.Cond.fieldLink "LandMap$Roads" (127 : Nat) "LandMap$Plane" "nodes" "I") ∈ lw_all := lw_g (lw_at lw_m3 72 rfl) rfl
theorem q730 : (Jvm.Cond.fieldLink "LandMap$Faces" (120 : Nat) "LandMap$Plane" "nodes" "I") ∈ lw_all := lw_g (lw_at lw_m3 73 rfl) rfl
theorem q731 : (Jvm.Cond.fieldLink "LandMap$Plane" (186 : Nat) "LandMap$Plane" "nodes" "I") ∈ lw_all := lw_g (lw_at lw_m3 74 rfl) rfl
theorem q732 : (Jvm.Cond.fieldLink "LandMap" (336 : Nat) "LandMap$Plane" "nodes" "I") ∈ lw_all := lw_g (lw_at lw_m3 75 rfl) rfl
theorem q733 : (Jvm.Cond.fieldLink "LandMap$Plane" (60 : Nat) "LandMap$Plane" "one" "[I") ∈ lw_all := lw_g (lw_at lw_m3 76 rfl) rfl
theorem q734 : (Jvm.Cond.fieldLink "LandMap$Faces" (82 : Nat) "LandMap$Plane" "one" "[I") ∈ lw_all := lw_g (lw_at lw_m3 77 rfl) rfl
theorem q735 : (Jvm.Cond.fieldLink "LandMap$Roads" (92 : Nat) "LandMap$Plane" "one" "[I") ∈ lw_all := lw_g (lw_at lw_m3 78 rfl) rfl
theorem q736 : (Jvm.Cond.fieldLink "LandMap" (350 : Nat) "LandMap$Plane" "one" "[I") ∈ lw_all := lw_g (lw_at lw_m3 79 rfl) rfl
theorem q737 : (Jvm.Cond.fieldLink "LandMap$Plane" (63 : Nat) "LandMap$Plane" "two" "[I") ∈ lw_all := lw_g (lw_at lw_m3 80 rfl) rfl
theorem q738 : (Jvm.Cond.fieldLink "LandMap$Faces" (85 : Nat) "LandMap$Plane" "two" "[I") ∈ lw_all := lw_g (lw_at lw_m3 81 rfl) rfl
theorem q739 : (Jvm.Cond.fieldLink "LandMap$Roads" (95 : Nat) "LandMap$Plane" "two" "[I") ∈ lw_all := lw_g (lw_at lw_m3 82 rfl) rfl
theorem q740 : (Jvm.Cond.fieldLink "LandMap" (353 : Nat) "LandMap$Plane" "two" "[I") ∈ lw_all := lw_g (lw_at lw_m3 83 rfl) rfl
theorem q741 : (Jvm.Cond.fieldLink "LandMap$Plane" (66 : Nat) "LandMap$Plane" "goersFrom" "[I") ∈ lw_all := lw_g (lw_at lw_m3 84 rfl) rfl
theorem q742 : (Jvm.Cond.fieldLink "LandMap$Roads" (65 : Nat) "LandMap$Plane" "goersFrom" "[I") ∈ lw_all := lw_g (lw_at lw_m3 85 rfl) rfl
theorem q743 : (Jvm.Cond.fieldLink "LandMap$Faces" (193 : Nat) "LandMap$Plane" "goersFrom" "[I") ∈ lw_all := lw_g (lw_at lw_m3 86 rfl) rfl
theorem q744 : (Jvm.Cond.fieldLink "LandMap$Roads" (61 : Nat) "LandMap$Plane" "pieces" "I") ∈ lw_all := lw_g (lw_at lw_m3 87 rfl) rfl
theorem q745 : (Jvm.Cond.fieldLink "LandMap$Relation" (60 : Nat) "LandMap$Plane" "pieces" "I") ∈ lw_all := lw_g (lw_at lw_m3 88 rfl) rfl
theorem q746 : (Jvm.Cond.fieldLink "LandMap$Overlay" (120 : Nat) "LandMap$Plane" "pieces" "I") ∈ lw_all := lw_g (lw_at lw_m3 89 rfl) rfl
theorem q747 : (Jvm.Cond.fieldLink "LandMap$Faces" (124 : Nat) "LandMap$Plane" "pieces" "I") ∈ lw_all := lw_g (lw_at lw_m3 90 rfl) rfl
theorem q748 : (Jvm.Cond.fieldLink "LandMap$Plane" (234 : Nat) "LandMap$Plane" "pieces" "I") ∈ lw_all := lw_g (lw_at lw_m3 91 rfl) rfl
theorem q749 : (Jvm.Cond.fieldLink "LandMap" (333 : Nat) "LandMap$Plane" "pieces" "I") ∈ lw_all := lw_g (lw_at lw_m3 92 rfl) rfl
theorem q750 : (Jvm.Cond.fieldLink "LandMap$Plane" (69 : Nat) "LandMap$Plane" "goer" "[I") ∈ lw_all := lw_g (lw_at lw_m3 93 rfl) rfl
theorem q751 : (Jvm.Cond.fieldLink "LandMap$Roads" (68 : Nat) "LandMap$Plane" "goer" "[I") ∈ lw_all := lw_g (lw_at lw_m3 94 rfl) rfl
theorem q752 : (Jvm.Cond.fieldLink "LandMap$Faces" (196 : Nat) "LandMap$Plane" "goer" "[I") ∈ lw_all := lw_g (lw_at lw_m3 95 rfl) rfl
theorem q753 : (Jvm.Cond.fieldLink "LandMap$Plane" (72 : Nat) "LandMap$Plane" "times" "[I") ∈ lw_all := lw_g (lw_at lw_m3 96 rfl) rfl
theorem q754 : (Jvm.Cond.fieldLink "LandMap$Faces" (199 : Nat) "LandMap$Plane" "times" "[I") ∈ lw_all := lw_g (lw_at lw_m3 97 rfl) rfl
theorem q755 : (Jvm.Cond.fieldLink "LandMap$Plane" (75 : Nat) "LandMap$Plane" "steps" "[J") ∈ lw_all := lw_g (lw_at lw_m3 98 rfl) rfl
theorem q756 : (Jvm.Cond.fieldLink "LandMap$Plane" (132 : Nat) "LandMap$Plane" "stepCount" "I") ∈ lw_all := lw_g (lw_at lw_m3 99 rfl) rfl
theorem q757 : (Jvm.Cond.fieldLink "LandMap$Plane" (79 : Nat) "LandMap$Plane" "met" "[I") ∈ lw_all := lw_g (lw_at lw_m3 100 rfl) rfl
theorem q758 : (Jvm.Cond.fieldLink "LandMap$Plane" (82 : Nat) "LandMap$Plane" "along" "[J") ∈ lw_all := lw_g (lw_at lw_m3 101 rfl) rfl
theorem q759 : (Jvm.Cond.fieldLink "LandMap$Plane" (212 : Nat) "LandMap$Plane" "metCount" "I") ∈ lw_all := lw_g (lw_at lw_m3 102 rfl) rfl
theorem q760 : (Jvm.Cond.fieldLink "LandMap$Plane" (92 : Nat) "LandMap$Plane" "good" "Z") ∈ lw_all := lw_g (lw_at lw_m3 103 rfl) rfl
theorem q761 : (Jvm.Cond.laysFinal "LandMap$Plane" "LandMap$Plane" "sorter" "LLandMap$Sorter;") ∈ lw_all := lw_g (lw_at lw_m3 104 rfl) rfl
theorem q762 : (Jvm.Cond.soleField "LandMap$Plane" "sorter") ∈ lw_all := lw_g (lw_at lw_m3 105 rfl) rfl
theorem q763 : (Jvm.Cond.laysFinal "LandMap$Plane" "LandMap$Plane" "edges" "LLandMap$Edges;") ∈ lw_all := lw_g (lw_at lw_m3 106 rfl) rfl
theorem q764 : (Jvm.Cond.soleField "LandMap$Plane" "edges") ∈ lw_all := lw_g (lw_at lw_m3 107 rfl) rfl
theorem q765 : (Jvm.Cond.laysFinal "LandMap$Plane" "LandMap$Plane" "hot" "LLandMap$HotSet;") ∈ lw_all := lw_g (lw_at lw_m3 108 rfl) rfl
theorem q766 : (Jvm.Cond.soleField "LandMap$Plane" "hot") ∈ lw_all := lw_g (lw_at lw_m3 109 rfl) rfl
theorem q767 : (Jvm.Cond.laysFinal "LandMap$Plane" "LandMap$Plane" "part" "LLandMap$Part;") ∈ lw_all := lw_g (lw_at lw_m3 110 rfl) rfl
theorem q768 : (Jvm.Cond.soleField "LandMap$Plane" "part") ∈ lw_all := lw_g (lw_at lw_m3 111 rfl) rfl
theorem q769 : (Jvm.Cond.laysFinal "LandMap$Plane" "LandMap$Plane" "of" "[LLandMap$Feature;") ∈ lw_all := lw_g (lw_at lw_m3 112 rfl) rfl
theorem q770 : (Jvm.Cond.soleField "LandMap$Plane" "of") ∈ lw_all := lw_g (lw_at lw_m3 113 rfl) rfl
theorem q771 : (Jvm.Cond.laysFinal "LandMap$Plane" "LandMap$Plane" "side" "[I") ∈ lw_all := lw_g (lw_at lw_m3 114 rfl) rfl
theorem q772 : (Jvm.Cond.soleField "LandMap$Plane" "side") ∈ lw_all := lw_g (lw_at lw_m3 115 rfl) rfl
theorem q773 : (Jvm.Cond.laysFinal "LandMap$Plane" "LandMap$Plane" "number" "[I") ∈ lw_all := lw_g (lw_at lw_m3 116 rfl) rfl
theorem q774 : (Jvm.Cond.soleField "LandMap$Plane" "number") ∈ lw_all := lw_g (lw_at lw_m3 117 rfl) rfl
theorem q775 : (Jvm.Cond.lays "LandMap$Plane" "LandMap$Plane" "sources" "I") ∈ lw_all := lw_g (lw_at lw_m3 118 rfl) rfl
theorem q776 : (Jvm.Cond.soleField "LandMap$Plane" "sources") ∈ lw_all := lw_g (lw_at lw_m3 119 rfl) rfl
theorem q777 : (Jvm.Cond.laysFinal "LandMap$Plane" "LandMap$Plane" "xs" "[I") ∈ lw_all := lw_g (lw_at lw_m3 120 rfl) rfl
theorem q778 : (Jvm.Cond.soleField "LandMap$Plane" "xs") ∈ lw_all := lw_g (lw_at lw_m3 121 rfl) rfl
theorem q779 : (Jvm.Cond.laysFinal "LandMap$Plane" "LandMap$Plane" "ys" "[I") ∈ lw_all := lw_g (lw_at lw_m3 122 rfl) rfl
theorem q780 : (Jvm.Cond.soleField "LandMap$Plane" "ys") ∈ lw_all := lw_g (lw_at lw_m3 123 rfl) rfl
theorem q781 : (Jvm.Cond.lays "LandMap$Plane" "LandMap$Plane" "nodes" "I") ∈ lw_all := lw_g (lw_at lw_m3 124 rfl) rfl
theorem q782 : (Jvm.Cond.soleField "LandMap$Plane" "nodes") ∈ lw_all := lw_g (lw_at lw_m3 125 rfl) rfl
theorem q783 : (Jvm.Cond.laysFinal "LandMap$Plane" "LandMap$Plane" "one" "[I") ∈ lw_all := lw_g (lw_at lw_m3 126 rfl) rfl
theorem q784 : (Jvm.Cond.soleField "LandMap$Plane" "one") ∈ lw_all := lw_g (lw_at lw_m3 127 rfl) rfl
theorem q785 : (Jvm.Cond.laysFinal "LandMap$Plane" "LandMap$Plane" "two" "[I") ∈ lw_all := lw_g (lw_at lw_m3 128 rfl) rfl
theorem q786 : (Jvm.Cond.soleField "LandMap$Plane" "two") ∈ lw_all := lw_g (lw_at lw_m3 129 rfl) rfl
theorem q787 : (Jvm.Cond.laysFinal "LandMap$Plane" "LandMap$Plane" "goersFrom" "[I") ∈ lw_all := lw_g (lw_at lw_m3 130 rfl) rfl
theorem q788 : (Jvm.Cond.soleField "LandMap$Plane" "goersFrom") ∈ lw_all := lw_g (lw_at lw_m3 131 rfl) rfl
theorem q789 : (Jvm.Cond.lays "LandMap$Plane" "LandMap$Plane" "pieces" "I") ∈ lw_all := lw_g (lw_at lw_m3 132 rfl) rfl
theorem q790 : (Jvm.Cond.soleField "LandMap$Plane" "pieces") ∈ lw_all := lw_g (lw_at lw_m3 133 rfl) rfl
theorem q791 : (Jvm.Cond.laysFinal "LandMap$Plane" "LandMap$Plane" "goer" "[I") ∈ lw_all := lw_g (lw_at lw_m3 134 rfl) rfl
theorem q792 : (Jvm.Cond.soleField "LandMap$Plane" "goer") ∈ lw_all := lw_g (lw_at lw_m3 135 rfl) rfl
theorem q793 : (Jvm.Cond.laysFinal "LandMap$Plane" "LandMap$Plane" "times" "[I") ∈ lw_all := lw_g (lw_at lw_m3 136 rfl) rfl
theorem q794 : (Jvm.Cond.soleField "LandMap$Plane" "times") ∈ lw_all := lw_g (lw_at lw_m3 137 rfl) rfl
theorem q795 : (Jvm.Cond.laysFinal "LandMap$Plane" "LandMap$Plane" "steps" "[J") ∈ lw_all := lw_g (lw_at lw_m3 138 rfl) rfl
theorem q796 : (Jvm.Cond.soleField "LandMap$Plane" "steps") ∈ lw_all := lw_g (lw_at lw_m3 139 rfl) rfl
theorem q797 : (Jvm.Cond.lays "LandMap$Plane" "LandMap$Plane" "stepCount" "I") ∈ lw_all := lw_g (lw_at lw_m3 140 rfl) rfl
theorem q798 : (Jvm.Cond.soleField "LandMap$Plane" "stepCount") ∈ lw_all := lw_g (lw_at lw_m3 141 rfl) rfl
theorem q799 : (Jvm.Cond.laysFinal "LandMap$Plane" "LandMap$Plane" "met" "[I") ∈ lw_all := lw_g (lw_at lw_m3 142 rfl) rfl
theorem q800 : (Jvm.Cond.soleField "LandMap$Plane" "met") ∈ lw_all := lw_g (lw_at lw_m3 143 rfl) rfl
theorem q801 : (Jvm.Cond.laysFinal "LandMap$Plane" "LandMap$Plane" "along" "[J") ∈ lw_all := lw_g (lw_at lw_m3 144 rfl) rfl
theorem q802 : (Jvm.Cond.soleField "LandMap$Plane" "along") ∈ lw_all := lw_g (lw_at lw_m3 145 rfl) rfl
theorem q803 : (Jvm.Cond.lays "LandMap$Plane" "LandMap$Plane" "metCount" "I") ∈ lw_all := lw_g (lw_at lw_m3 146 rfl) rfl
theorem q804 : (Jvm.Cond.soleField "LandMap$Plane" "metCount") ∈ lw_all := lw_g (lw_at lw_m3 147 rfl) rfl
theorem q805 : (Jvm.Cond.lays "LandMap$Plane" "LandMap$Plane" "good" "Z") ∈ lw_all := lw_g (lw_at lw_m3 148 rfl) rfl
theorem q806 : (Jvm.Cond.soleField "LandMap$Plane" "good") ∈ lw_all := lw_g (lw_at lw_m3 149 rfl) rfl
theorem q807 : (Jvm.Cond.superclass "LandMap$Plane" "java/lang/Object") ∈ lw_all := lw_g (lw_at lw_m3 150 rfl) rfl
theorem q808 : (Jvm.Cond.classLink "LandMap$Laid" (16 : Nat) "LandMap$Faces") ∈ lw_all := lw_g (lw_at lw_m3 151 rfl) rfl
theorem q809 : (Jvm.Cond.instantiable "LandMap$Faces" (22 : Nat)) ∈ lw_all := lw_g (lw_at lw_m3 152 rfl) rfl
theorem q810 : (Jvm.Cond.methodLink "LandMap$Laid" (18 : Nat) ({ cls := "LandMap$Faces", name := "<init>", desc := "(LLandMap$Plane;)V" } : Jvm.MethodName)) ∈ lw_all := lw_g (lw_at lw_m3 153 rfl) rfl
theorem q811 : (Jvm.Cond.instanceMethod ({ cls := "LandMap$Faces", name := "<init>", desc := "(LLandMap$Plane;)V" } : Jvm.MethodName)) ∈ lw_all := lw_g (lw_at lw_m3 154 rfl) rfl
theorem q812 : (Jvm.Cond.code ({ cls := "LandMap$Faces", name := "<init>", desc := "(LLandMap$Plane;)V" } : Jvm.MethodName) prog_6_method_1_code (2 : Nat) (Option.none : Option Jvm.ClassFile.FieldType)) ∈ lw_all := lw_g (lw_at lw_m3 155 rfl) rfl
theorem q813 : (Jvm.Cond.methodLink "LandMap$Faces" (3 : Nat) ({ cls := "java/lang/Object", name := "<init>", desc := "()V" } : Jvm.MethodName)) ∈ lw_all := lw_g (lw_at lw_m3 156 rfl) rfl
theorem q814 : (Jvm.Cond.classLink "LandMap$Faces" (9 : Nat) "LandMap$Sorter") ∈ lw_all := lw_g (lw_at lw_m3 157 rfl) rfl
theorem q815 : (Jvm.Cond.methodLinkNest "LandMap$Faces" (11 : Nat) ({ cls := "LandMap$Sorter", name := "<init>", desc := "()V" } : Jvm.MethodName) "LandMap") ∈ lw_tbl := lw_at lw_m3 158 rfl
theorem q816 : (Jvm.Cond.constant "LandMap$Faces" (67 : Nat) (144032 : Int32)) ∈ lw_all := lw_g (lw_at lw_m3 159 rfl) rfl
theorem q817 : (Jvm.Cond.fieldLink "LandMap$Faces" (78 : Nat) "LandMap$Faces" "plane" "LLandMap$Plane;") ∈ lw_all := lw_g (lw_at lw_m3 160 rfl) rfl
theorem q818 : (Jvm.Cond.fieldLink "LandMap$Faces" (12 : Nat) "LandMap$Faces" "sorter" "LLandMap$Sorter;") ∈ lw_all := lw_g (lw_at lw_m3 161 rfl) rfl
theorem q819 : (Jvm.Cond.fieldLink "LandMap$Faces" (20 : Nat) "LandMap$Faces" "outFrom" "[I") ∈ lw_all := lw_g (lw_at lw_m3 162 rfl) rfl
theorem q820 : (Jvm.Cond.fieldLink "LandMap$Faces" (24 : Nat) "LandMap$Faces" "out" "[I") ∈ lw_all := lw_g (lw_at lw_m3 163 rfl) rfl
theorem q821 : (Jvm.Cond.fieldLink "LandMap$Faces" (27 : Nat) "LandMap$Faces" "placeOf" "[I") ∈ lw_all := lw_g (lw_at lw_m3 164 rfl) rfl
theorem q822 : (Jvm.Cond.fieldLink "LandMap$Faces" (30 : Nat) "LandMap$Faces" "ring" "[I") ∈ lw_all := lw_g (lw_at lw_m3 165 rfl) rfl
theorem q823 : (Jvm.Cond.fieldLink "LandMap$Faces" (33 : Nat) "LandMap$Faces" "ringWay" "[I") ∈ lw_all := lw_g (lw_at lw_m3 166 rfl) rfl
theorem q824 : (Jvm.Cond.fieldLink "LandMap$Faces" (36 : Nat) "LandMap$Faces" "ringArea" "[J") ∈ lw_all := lw_g (lw_at lw_m3 167 rfl) rfl
theorem q825 : (Jvm.Cond.fieldLink "LandMap$Faces" (40 : Nat) "LandMap$Faces" "ringFace" "[I") ∈ lw_all := lw_g (lw_at lw_m3 168 rfl) rfl
theorem q826 : (Jvm.Cond.fieldLink "LandMap$Faces" (43 : Nat) "LandMap$Faces" "ringLeast" "[I") ∈ lw_all := lw_g (lw_at lw_m3 169 rfl) rfl
theorem q827 : (Jvm.Cond.fieldLink "LandMap$Faces" (46 : Nat) "LandMap$Faces" "ringSize" "[I") ∈ lw_all := lw_g (lw_at lw_m3 170 rfl) rfl
theorem q828 : (Jvm.Cond.fieldLink "LandMap$Faces" (131 : Nat) "LandMap$Faces" "rings" "I") ∈ lw_all := lw_g (lw_at lw_m3 171 rfl) rfl
theorem q829 : (Jvm.Cond.fieldLink "LandMap$Overlay" (75 : Nat) "LandMap$Faces" "faces" "I") ∈ lw_all := lw_g (lw_at lw_m3 172 rfl) rfl
theorem q830 : (Jvm.Cond.fieldLink "LandMap$Relation" (50 : Nat) "LandMap$Faces" "faces" "I") ∈ lw_all := lw_g (lw_at lw_m3 173 rfl) rfl
theorem q831 : (Jvm.Cond.fieldLink "LandMap$Rules" (138 : Nat) "LandMap$Faces" "faces" "I") ∈ lw_all := lw_g (lw_at lw_m3 174 rfl) rfl
theorem q832 : (Jvm.Cond.fieldLink "LandMap$Faces" (157 : Nat) "LandMap$Faces" "faces" "I") ∈ lw_all := lw_g (lw_at lw_m3 175 rfl) rfl
theorem q833 : (Jvm.Cond.fieldLink "LandMap" (339 : Nat) "LandMap$Faces" "faces" "I") ∈ lw_all := lw_g (lw_at lw_m3 176 rfl) rfl
theorem q834 : (Jvm.Cond.fieldLink "LandMap$Faces" (49 : Nat) "LandMap$Faces" "keys" "[J") ∈ lw_all := lw_g (lw_at lw_m3 177 rfl) rfl
theorem q835 : (Jvm.Cond.fieldLink "LandMap$Faces" (52 : Nat) "LandMap$Faces" "faceRings" "[I") ∈ lw_all := lw_g (lw_at lw_m3 178 rfl) rfl
theorem q836 : (Jvm.Cond.fieldLink "LandMap" (359 : Nat) "LandMap$Faces" "faceRings" "[I") ∈ lw_all := lw_g (lw_at lw_m3 179 rfl) rfl
theorem q837 : (Jvm.Cond.fieldLink "LandMap$Faces" (55 : Nat) "LandMap$Faces" "faceWays" "[I") ∈ lw_all := lw_g (lw_at lw_m3 180 rfl) rfl
theorem q838 : (Jvm.Cond.fieldLink "LandMap" (362 : Nat) "LandMap$Faces" "faceWays" "[I") ∈ lw_all := lw_g (lw_at lw_m3 181 rfl) rfl
theorem q839 : (Jvm.Cond.fieldLink "LandMap$Faces" (58 : Nat) "LandMap$Faces" "faceArea" "[J") ∈ lw_all := lw_g (lw_at lw_m3 182 rfl) rfl
theorem q840 : (Jvm.Cond.fieldLink "LandMap" (374 : Nat) "LandMap$Faces" "faceArea" "[J") ∈ lw_all := lw_g (lw_at lw_m3 183 rfl) rfl
theorem q841 : (Jvm.Cond.fieldLink "LandMap$Faces" (61 : Nat) "LandMap$Faces" "firstRing" "[I") ∈ lw_all := lw_g (lw_at lw_m3 184 rfl) rfl
theorem q842 : (Jvm.Cond.fieldLink "LandMap$Faces" (64 : Nat) "LandMap$Faces" "nextRing" "[I") ∈ lw_all := lw_g (lw_at lw_m3 185 rfl) rfl
theorem q843 : (Jvm.Cond.fieldLink "LandMap$Faces" (68 : Nat) "LandMap$Faces" "covers" "[I") ∈ lw_all := lw_g (lw_at lw_m3 186 rfl) rfl
theorem q844 : (Jvm.Cond.fieldLink "LandMap$Faces" (71 : Nat) "LandMap$Faces" "isKnown" "[Z") ∈ lw_all := lw_g (lw_at lw_m3 187 rfl) rfl
theorem q845 : (Jvm.Cond.fieldLink "LandMap$Faces" (75 : Nat) "LandMap$Faces" "queue" "[I") ∈ lw_all := lw_g (lw_at lw_m3 188 rfl) rfl
theorem q846 : (Jvm.Cond.laysFinal "LandMap$Faces" "LandMap$Faces" "plane" "LLandMap$Plane;") ∈ lw_all := lw_g (lw_at lw_m3 189 rfl) rfl
theorem q847 : (Jvm.Cond.soleField "LandMap$Faces" "plane") ∈ lw_all := lw_g (lw_at lw_m3 190 rfl) rfl
theorem q848 : (Jvm.Cond.laysFinal "LandMap$Faces" "LandMap$Faces" "sorter" "LLandMap$Sorter;") ∈ lw_all := lw_g (lw_at lw_m3 191 rfl) rfl
theorem q849 : (Jvm.Cond.soleField "LandMap$Faces" "sorter") ∈ lw_all := lw_g (lw_at lw_m3 192 rfl) rfl
theorem q850 : (Jvm.Cond.laysFinal "LandMap$Faces" "LandMap$Faces" "outFrom" "[I") ∈ lw_all := lw_g (lw_at lw_m3 193 rfl) rfl
theorem q851 : (Jvm.Cond.soleField "LandMap$Faces" "outFrom") ∈ lw_all := lw_g (lw_at lw_m3 194 rfl) rfl
theorem q852 : (Jvm.Cond.laysFinal "LandMap$Faces" "LandMap$Faces" "out" "[I") ∈ lw_all := lw_g (lw_at lw_m3 195 rfl) rfl
theorem q853 : (Jvm.Cond.soleField "LandMap$Faces" "out") ∈ lw_all := lw_g (lw_at lw_m3 196 rfl) rfl
theorem q854 : (Jvm.Cond.laysFinal "LandMap$Faces" "LandMap$Faces" "placeOf" "[I") ∈ lw_all := lw_g (lw_at lw_m3 197 rfl) rfl
theorem q855 : (Jvm.Cond.soleField "LandMap$Faces" "placeOf") ∈ lw_all := lw_g (lw_at lw_m3 198 rfl) rfl
theorem q856 : (Jvm.Cond.laysFinal "LandMap$Faces" "LandMap$Faces" "ring" "[I") ∈ lw_all := lw_g (lw_at lw_m3 199 rfl) rfl
theorem q857 : (Jvm.Cond.soleField "LandMap$Faces" "ring") ∈ lw_all := lw_g (lw_at lw_m3 200 rfl) rfl
theorem q858 : (Jvm.Cond.laysFinal "LandMap$Faces" "LandMap$Faces" "ringWay" "[I") ∈ lw_all := lw_g (lw_at lw_m3 201 rfl) rfl
theorem q859 : (Jvm.Cond.soleField "LandMap$Faces" "ringWay") ∈ lw_all := lw_g (lw_at lw_m3 202 rfl) rfl
theorem q860 : (Jvm.Cond.laysFinal "LandMap$Faces" "LandMap$Faces" "ringArea" "[J") ∈ lw_all := lw_g (lw_at lw_m3 203 rfl) rfl
theorem q861 : (Jvm.Cond.soleField "LandMap$Faces" "ringArea") ∈ lw_all := lw_g (lw_at lw_m3 204 rfl) rfl
theorem q862 : (Jvm.Cond.laysFinal "LandMap$Faces" "LandMap$Faces" "ringFace" "[I") ∈ lw_all := lw_g (lw_at lw_m3 205 rfl) rfl
theorem q863 : (Jvm.Cond.soleField "LandMap$Faces" "ringFace") ∈ lw_all := lw_g (lw_at lw_m3 206 rfl) rfl
theorem q864 : (Jvm.Cond.laysFinal "LandMap$Faces" "LandMap$Faces" "ringLeast" "[I") ∈ lw_all := lw_g (lw_at lw_m3 207 rfl) rfl
theorem q865 : (Jvm.Cond.soleField "LandMap$Faces" "ringLeast") ∈ lw_all := lw_g (lw_at lw_m3 208 rfl) rfl
theorem q866 : (Jvm.Cond.laysFinal "LandMap$Faces" "LandMap$Faces" "ringSize" "[I") ∈ lw_all := lw_g (lw_at lw_m3 209 rfl) rfl
theorem q867 : (Jvm.Cond.soleField "LandMap$Faces" "ringSize") ∈ lw_all := lw_g (lw_at lw_m3 210 rfl) rfl
theorem q868 : (Jvm.Cond.lays "LandMap$Faces" "LandMap$Faces" "rings" "I") ∈ lw_all := lw_g (lw_at lw_m3 211 rfl) rfl
theorem q869 : (Jvm.Cond.soleField "LandMap$Faces" "rings") ∈ lw_all := lw_g (lw_at lw_m3 212 rfl) rfl
theorem q870 : (Jvm.Cond.lays "LandMap$Faces" "LandMap$Faces" "faces" "I") ∈ lw_all := lw_g (lw_at lw_m3 213 rfl) rfl
theorem q871 : (Jvm.Cond.soleField "LandMap$Faces" "faces") ∈ lw_all := lw_g (lw_at lw_m3 214 rfl) rfl
theorem q872 : (Jvm.Cond.laysFinal "LandMap$Faces" "LandMap$Faces" "keys" "[J") ∈ lw_all := lw_g (lw_at lw_m3 215 rfl) rfl
theorem q873 : (Jvm.Cond.soleField "LandMap$Faces" "keys") ∈ lw_all := lw_g (lw_at lw_m3 216 rfl) rfl
theorem q874 : (Jvm.Cond.laysFinal "LandMap$Faces" "LandMap$Faces" "faceRings" "[I") ∈ lw_all := lw_g (lw_at lw_m3 217 rfl) rfl
theorem q875 : (Jvm.Cond.soleField "LandMap$Faces" "faceRings") ∈ lw_all := lw_g (lw_at lw_m3 218 rfl) rfl
theorem q876 : (Jvm.Cond.laysFinal "LandMap$Faces" "LandMap$Faces" "faceWays" "[I") ∈ lw_all := lw_g (lw_at lw_m3 219 rfl) rfl
theorem q877 : (Jvm.Cond.soleField "LandMap$Faces" "faceWays") ∈ lw_all := lw_g (lw_at lw_m3 220 rfl) rfl
theorem q878 : (Jvm.Cond.laysFinal "LandMap$Faces" "LandMap$Faces" "faceArea" "[J") ∈ lw_all := lw_g (lw_at lw_m3 221 rfl) rfl
theorem q879 : (Jvm.Cond.soleField "LandMap$Faces" "faceArea") ∈ lw_all := lw_g (lw_at lw_m3 222 rfl) rfl
theorem q880 : (Jvm.Cond.laysFinal "LandMap$Faces" "LandMap$Faces" "firstRing" "[I") ∈ lw_all := lw_g (lw_at lw_m3 223 rfl) rfl
theorem q881 : (Jvm.Cond.soleField "LandMap$Faces" "firstRing") ∈ lw_all := lw_g (lw_at lw_m3 224 rfl) rfl
theorem q882 : (Jvm.Cond.laysFinal "LandMap$Faces" "LandMap$Faces" "nextRing" "[I") ∈ lw_all := lw_g (lw_at lw_m3 225 rfl) rfl
theorem q883 : (Jvm.Cond.soleField "LandMap$Faces" "nextRing") ∈ lw_all := lw_g (lw_at lw_m3 226 rfl) rfl
theorem q884 : (Jvm.Cond.laysFinal "LandMap$Faces" "LandMap$Faces" "covers" "[I") ∈ lw_all := lw_g (lw_at lw_m3 227 rfl) rfl
theorem q885 : (Jvm.Cond.soleField "LandMap$Faces" "covers") ∈ lw_all := lw_g (lw_at lw_m3 228 rfl) rfl
theorem q886 : (Jvm.Cond.laysFinal "LandMap$Faces" "LandMap$Faces" "isKnown" "[Z") ∈ lw_all := lw_g (lw_at lw_m3 229 rfl) rfl
theorem q887 : (Jvm.Cond.soleField "LandMap$Faces" "isKnown") ∈ lw_all := lw_g (lw_at lw_m3 230 rfl) rfl
theorem q888 : (Jvm.Cond.laysFinal "LandMap$Faces" "LandMap$Faces" "queue" "[I") ∈ lw_all := lw_g (lw_at lw_m3 231 rfl) rfl
theorem q889 : (Jvm.Cond.soleField "LandMap$Faces" "queue") ∈ lw_all := lw_g (lw_at lw_m3 232 rfl) rfl
theorem q890 : (Jvm.Cond.superclass "LandMap$Faces" "java/lang/Object") ∈ lw_all := lw_g (lw_at lw_m3 233 rfl) rfl
theorem q891 : (Jvm.Cond.fieldLink "LandMap$Laid" (10 : Nat) "LandMap$Laid" "plane" "LLandMap$Plane;") ∈ lw_all := lw_g (lw_at lw_m3 234 rfl) rfl
theorem q892 : (Jvm.Cond.fieldLink "LandMap$Rules" (56 : Nat) "LandMap$Laid" "plane" "LLandMap$Plane;") ∈ lw_all := lw_g (lw_at lw_m3 235 rfl) rfl
theorem q893 : (Jvm.Cond.fieldLink "LandMap$Roads" (49 : Nat) "LandMap$Laid" "plane" "LLandMap$Plane;") ∈ lw_all := lw_g (lw_at lw_m3 236 rfl) rfl
theorem q894 : (Jvm.Cond.fieldLink "LandMap$Overlay" (63 : Nat) "LandMap$Laid" "plane" "LLandMap$Plane;") ∈ lw_all := lw_g (lw_at lw_m3 237 rfl) rfl
theorem q895 : (Jvm.Cond.fieldLink "LandMap$Relation" (21 : Nat) "LandMap$Laid" "plane" "LLandMap$Plane;") ∈ lw_all := lw_g (lw_at lw_m3 238 rfl) rfl
theorem q896 : (Jvm.Cond.fieldLink "LandMap" (298 : Nat) "LandMap$Laid" "plane" "LLandMap$Plane;") ∈ lw_all := lw_g (lw_at lw_m3 239 rfl) rfl
theorem q897 : (Jvm.Cond.fieldLink "LandMap$Laid" (21 : Nat) "LandMap$Laid" "faces" "LLandMap$Faces;") ∈ lw_all := lw_g (lw_at lw_m4 0 rfl) rfl
theorem q898 : (Jvm.Cond.fieldLink "LandMap$Rules" (62 : Nat) "LandMap$Laid" "faces" "LLandMap$Faces;") ∈ lw_all := lw_g (lw_at lw_m4 1 rfl) rfl
theorem q899 : (Jvm.Cond.fieldLink "LandMap$Roads" (56 : Nat) "LandMap$Laid" "faces" "LLandMap$Faces;") ∈ lw_all := lw_g (lw_at lw_m4 2 rfl) rfl
theorem q900 : (Jvm.Cond.fieldLink "LandMap$Overlay" (70 : Nat) "LandMap$Laid" "faces" "LLandMap$Faces;") ∈ lw_all := lw_g (lw_at lw_m4 3 rfl) rfl
theorem q901 : (Jvm.Cond.fieldLink "LandMap$Relation" (28 : Nat) "LandMap$Laid" "faces" "LLandMap$Faces;") ∈ lw_all := lw_g (lw_at lw_m4 4 rfl) rfl
theorem q902 : (Jvm.Cond.fieldLink "LandMap" (318 : Nat) "LandMap$Laid" "faces" "LLandMap$Faces;") ∈ lw_all := lw_g (lw_at lw_m4 5 rfl) rfl
theorem q903 : (Jvm.Cond.laysFinal "LandMap$Laid" "LandMap$Laid" "plane" "LLandMap$Plane;") ∈ lw_all := lw_g (lw_at lw_m4 6 rfl) rfl
theorem q904 : (Jvm.Cond.soleField "LandMap$Laid" "plane") ∈ lw_all := lw_g (lw_at lw_m4 7 rfl) rfl
theorem q905 : (Jvm.Cond.laysFinal "LandMap$Laid" "LandMap$Laid" "faces" "LLandMap$Faces;") ∈ lw_all := lw_g (lw_at lw_m4 8 rfl) rfl
theorem q906 : (Jvm.Cond.soleField "LandMap$Laid" "faces") ∈ lw_all := lw_g (lw_at lw_m4 9 rfl) rfl
theorem q907 : (Jvm.Cond.superclass "LandMap$Laid" "java/lang/Object") ∈ lw_all := lw_g (lw_at lw_m4 10 rfl) rfl
theorem q908 : (Jvm.Cond.methodLink "LandMap" (92 : Nat) ({ cls := "LandMap$State", name := "first", desc := "()LLandMap$State;" } : Jvm.MethodName)) ∈ lw_all := lw_g (lw_at lw_m4 11 rfl) rfl
theorem q909 : (Jvm.Cond.static ({ cls := "LandMap$State", name := "first", desc := "()LLandMap$State;" } : Jvm.MethodName)) ∈ lw_all := lw_g (lw_at lw_m4 12 rfl) rfl
theorem q910 : (Jvm.Cond.code ({ cls := "LandMap$State", name := "first", desc := "()LLandMap$State;" } : Jvm.MethodName) prog_23_method_2_code (2 : Nat) (Option.some (Jvm.ClassFile.FieldType.object "LandMap$State"))) ∈ lw_all := lw_g (lw_at lw_m4 13 rfl) rfl
theorem q911 : (Jvm.Cond.classLink "LandMap$State" (12 : Nat) "LandMap$State") ∈ lw_all := lw_g (lw_at lw_m4 14 rfl) rfl
theorem q912 : (Jvm.Cond.instantiable "LandMap$State" (2 : Nat)) ∈ lw_all := lw_g (lw_at lw_m4 15 rfl) rfl
theorem q913 : (Jvm.Cond.methodLink "LandMap$State" (21 : Nat) ({ cls := "LandMap$State", name := "<init>", desc := "(LLandMap$State;)V" } : Jvm.MethodName)) ∈ lw_all := lw_g (lw_at lw_m4 16 rfl) rfl
theorem q914 : (Jvm.Cond.instanceMethod ({ cls := "LandMap$State", name := "<init>", desc := "(LLandMap$State;)V" } : Jvm.MethodName)) ∈ lw_all := lw_g (lw_at lw_m4 17 rfl) rfl
theorem q915 : (Jvm.Cond.code ({ cls := "LandMap$State", name := "<init>", desc := "(LLandMap$State;)V" } : Jvm.MethodName) prog_23_method_1_code (2 : Nat) (Option.none : Option Jvm.ClassFile.FieldType)) ∈ lw_all := lw_g (lw_at lw_m4 18 rfl) rfl
theorem q916 : (Jvm.Cond.methodLink "LandMap$State" (3 : Nat) ({ cls := "java/lang/Object", name := "<init>", desc := "()V" } : Jvm.MethodName)) ∈ lw_all := lw_g (lw_at lw_m4 19 rfl) rfl
theorem q917 : (Jvm.Cond.classLink "LandMap$State" (9 : Nat) "LandMap$Layer") ∈ lw_all := lw_g (lw_at lw_m4 20 rfl) rfl
theorem q918 : (Jvm.Cond.arrayOver (Jvm.ClassFile.FieldType.object "LandMap$Layer")) ∈ lw_tbl := lw_at lw_m4 21 rfl
theorem q919 : (Jvm.Cond.fieldLink "LandMap$State" (11 : Nat) "LandMap$State" "layers" "[LLandMap$Layer;") ∈ lw_all := lw_g (lw_at lw_m4 22 rfl) rfl
theorem q920 : (Jvm.Cond.fieldLink "LandMap" (152 : Nat) "LandMap$State" "layers" "[LLandMap$Layer;") ∈ lw_all := lw_g (lw_at lw_m4 23 rfl) rfl
theorem q921 : (Jvm.Cond.fieldLink "LandMap$State" (17 : Nat) "LandMap$State" "before" "LLandMap$State;") ∈ lw_all := lw_g (lw_at lw_m4 24 rfl) rfl
theorem q922 : (Jvm.Cond.fieldLink "LandMap" (295 : Nat) "LandMap$State" "before" "LLandMap$State;") ∈ lw_all := lw_g (lw_at lw_m4 25 rfl) rfl
theorem q923 : (Jvm.Cond.laysFinal "LandMap$State" "LandMap$State" "layers" "[LLandMap$Layer;") ∈ lw_all := lw_g (lw_at lw_m4 26 rfl) rfl
theorem q924 : (Jvm.Cond.soleField "LandMap$State" "layers") ∈ lw_all := lw_g (lw_at lw_m4 27 rfl) rfl
theorem q925 : (Jvm.Cond.laysFinal "LandMap$State" "LandMap$State" "before" "LLandMap$State;") ∈ lw_all := lw_g (lw_at lw_m4 28 rfl) rfl
theorem q926 : (Jvm.Cond.soleField "LandMap$State" "before") ∈ lw_all := lw_g (lw_at lw_m4 29 rfl) rfl
theorem q927 : (Jvm.Cond.superclass "LandMap$State" "java/lang/Object") ∈ lw_all := lw_g (lw_at lw_m4 30 rfl) rfl
theorem q928 : (Jvm.Cond.instantiable "LandMap$Layer" (2 : Nat)) ∈ lw_all := lw_g (lw_at lw_m4 31 rfl) rfl
theorem q929 : (Jvm.Cond.methodLink "LandMap$State" (24 : Nat) ({ cls := "LandMap$Layer", name := "<init>", desc := "(I)V" } : Jvm.MethodName)) ∈ lw_all := lw_g (lw_at lw_m4 32 rfl) rfl
theorem q930 : (Jvm.Cond.instanceMethod ({ cls := "LandMap$Layer", name := "<init>", desc := "(I)V" } : Jvm.MethodName)) ∈ lw_all := lw_g (lw_at lw_m4 33 rfl) rfl
theorem q931 : (Jvm.Cond.code ({ cls := "LandMap$Layer", name := "<init>", desc := "(I)V" } : Jvm.MethodName) prog_12_method_1_code (2 : Nat) (Option.none : Option Jvm.ClassFile.FieldType)) ∈ lw_all := lw_g (lw_at lw_m4 34 rfl) rfl
theorem q932 : (Jvm.Cond.methodLink "LandMap$Layer" (1 : Nat) ({ cls := "java/lang/Object", name := "<init>", desc := "()V" } : Jvm.MethodName)) ∈ lw_all := lw_g (lw_at lw_m4 35 rfl) rfl
theorem q933 : (Jvm.Cond.classLink "LandMap$Layer" (7 : Nat) "LandMap$Feature") ∈ lw_all := lw_g (lw_at lw_m4 36 rfl) rfl
theorem q934 : (Jvm.Cond.fieldLink "LandMap$Layer" (9 : Nat) "LandMap$Layer" "items" "[LLandMap$Feature;") ∈ lw_all := lw_g (lw_at lw_m4 37 rfl) rfl
theorem q935 : (Jvm.Cond.fieldLink "LandMap$Layer" (15 : Nat) "LandMap$Layer" "size" "I") ∈ lw_all := lw_g (lw_at lw_m4 38 rfl) rfl
theorem q936 : (Jvm.Cond.fieldLink "LandMap" (211 : Nat) "LandMap$Layer" "size" "I") ∈ lw_all := lw_g (lw_at lw_m4 39 rfl) rfl
theorem q937 : (Jvm.Cond.lays "LandMap$Layer" "LandMap$Layer" "items" "[LLandMap$Feature;") ∈ lw_all := lw_g (lw_at lw_m4 40 rfl) rfl
theorem q938 : (Jvm.Cond.soleField "LandMap$Layer" "items") ∈ lw_all := lw_g (lw_at lw_m4 41 rfl) rfl
theorem q939 : (Jvm.Cond.lays "LandMap$Layer" "LandMap$Layer" "size" "I") ∈ lw_all := lw_g (lw_at lw_m4 42 rfl) rfl
theorem q940 : (Jvm.Cond.soleField "LandMap$Layer" "size") ∈ lw_all := lw_g (lw_at lw_m4 43 rfl) rfl
theorem q941 : (Jvm.Cond.superclass "LandMap$Layer" "java/lang/Object") ∈ lw_all := lw_g (lw_at lw_m4 44 rfl) rfl
theorem q942 : (Jvm.Cond.classLink "LandMap" (119 : Nat) "LandMap$Algebra") ∈ lw_all := lw_g (lw_at lw_m4 45 rfl) rfl
theorem q943 : (Jvm.Cond.instantiable "LandMap$Algebra" (9 : Nat)) ∈ lw_all := lw_g (lw_at lw_m4 46 rfl) rfl
theorem q944 : (Jvm.Cond.methodLink "LandMap" (121 : Nat) ({ cls := "LandMap$Algebra", name := "<init>", desc := "(LLandMap$Scan;Ljava/util/ArrayList;)V" } : Jvm.MethodName)) ∈ lw_all := lw_g (lw_at lw_m4 47 rfl) rfl
theorem q945 : (Jvm.Cond.instanceMethod ({ cls := "LandMap$Algebra", name := "<init>", desc := "(LLandMap$Scan;Ljava/util/ArrayList;)V" } : Jvm.MethodName)) ∈ lw_all := lw_g (lw_at lw_m4 48 rfl) rfl
theorem q946 : (Jvm.Cond.code ({ cls := "LandMap$Algebra", name := "<init>", desc := "(LLandMap$Scan;Ljava/util/ArrayList;)V" } : Jvm.MethodName) prog_2_method_1_code (3 : Nat) (Option.none : Option Jvm.ClassFile.FieldType)) ∈ lw_all := lw_g (lw_at lw_m4 49 rfl) rfl
theorem q947 : (Jvm.Cond.methodLink "LandMap$Algebra" (1 : Nat) ({ cls := "java/lang/Object", name := "<init>", desc := "()V" } : Jvm.MethodName)) ∈ lw_all := lw_g (lw_at lw_m4 50 rfl) rfl
theorem q948 : (Jvm.Cond.classLink "LandMap$Algebra" (13 : Nat) "java/util/ArrayList") ∈ lw_all := lw_g (lw_at lw_m4 51 rfl) rfl
theorem q949 : (Jvm.Cond.methodLink "LandMap$Algebra" (15 : Nat) ({ cls := "java/util/ArrayList", name := "<init>", desc := "(I)V" } : Jvm.MethodName)) ∈ lw_all := lw_g (lw_at lw_m4 52 rfl) rfl
theorem q950 : (Jvm.Cond.fieldLink "LandMap$Algebra" (22 : Nat) "LandMap$Algebra" "scan" "LLandMap$Scan;") ∈ lw_all := lw_g (lw_at lw_m4 53 rfl) rfl
theorem q951 : (Jvm.Cond.fieldLink "LandMap$Algebra" (26 : Nat) "LandMap$Algebra" "rasters" "Ljava/util/ArrayList;") ∈ lw_all := lw_g (lw_at lw_m4 54 rfl) rfl
theorem q952 : (Jvm.Cond.fieldLink "LandMap$Algebra" (7 : Nat) "LandMap$Algebra" "steps" "[I") ∈ lw_all := lw_g (lw_at lw_m4 55 rfl) rfl
theorem q953 : (Jvm.Cond.fieldLink "LandMap$Algebra" (29 : Nat) "LandMap$Algebra" "size" "I") ∈ lw_all := lw_g (lw_at lw_m4 56 rfl) rfl
theorem q954 : (Jvm.Cond.fieldLink "LandMap$Algebra" (33 : Nat) "LandMap$Algebra" "first" "LLandMap$Raster;") ∈ lw_all := lw_g (lw_at lw_m4 57 rfl) rfl
theorem q955 : (Jvm.Cond.fieldLink "LandMap$Algebra" (18 : Nat) "LandMap$Algebra" "stack" "Ljava/util/ArrayList;") ∈ lw_all := lw_g (lw_at lw_m4 58 rfl) rfl
theorem q956 : (Jvm.Cond.fieldLink "LandMap$Algebra" (154 : Nat) "LandMap$Algebra" "height" "I") ∈ lw_all := lw_g (lw_at lw_m4 59 rfl) rfl
theorem q957 : (Jvm.Cond.fieldLink "LandMap$Algebra" (167 : Nat) "LandMap$Algebra" "w" "I") ∈ lw_all := lw_g (lw_at lw_m4 60 rfl) rfl
theorem q958 : (Jvm.Cond.fieldLink "LandMap$Algebra" (171 : Nat) "LandMap$Algebra" "h" "I") ∈ lw_all := lw_g (lw_at lw_m4 61 rfl) rfl
theorem q959 : (Jvm.Cond.laysFinal "LandMap$Algebra" "LandMap$Algebra" "scan" "LLandMap$Scan;") ∈ lw_all := lw_g (lw_at lw_m4 62 rfl) rfl
theorem q960 : (Jvm.Cond.soleField "LandMap$Algebra" "scan") ∈ lw_all := lw_g (lw_at lw_m4 63 rfl) rfl
theorem q961 : (Jvm.Cond.laysFinal "LandMap$Algebra" "LandMap$Algebra" "rasters" "Ljava/util/ArrayList;") ∈ lw_all := lw_g (lw_at lw_m4 64 rfl) rfl
theorem q962 : (Jvm.Cond.soleField "LandMap$Algebra" "rasters") ∈ lw_all := lw_g (lw_at lw_m4 65 rfl) rfl
theorem q963 : (Jvm.Cond.lays "LandMap$Algebra" "LandMap$Algebra" "steps" "[I") ∈ lw_all := lw_g (lw_at lw_m4 66 rfl) rfl
theorem q964 : (Jvm.Cond.soleField "LandMap$Algebra" "steps") ∈ lw_all := lw_g (lw_at lw_m4 67 rfl) rfl
theorem q965 : (Jvm.Cond.lays "LandMap$Algebra" "LandMap$Algebra" "size" "I") ∈ lw_all := lw_g (lw_at lw_m4 68 rfl) rfl
theorem q966 : (Jvm.Cond.soleField "LandMap$Algebra" "size") ∈ lw_all := lw_g (lw_at lw_m4 69 rfl) rfl
theorem q967 : (Jvm.Cond.lays "LandMap$Algebra" "LandMap$Algebra" "first" "LLandMap$Raster;") ∈ lw_all := lw_g (lw_at lw_m4 70 rfl) rfl
theorem q968 : (Jvm.Cond.soleField "LandMap$Algebra" "first") ∈ lw_all := lw_g (lw_at lw_m4 71 rfl) rfl
theorem q969 : (Jvm.Cond.laysFinal "LandMap$Algebra" "LandMap$Algebra" "stack" "Ljava/util/ArrayList;") ∈ lw_all := lw_g (lw_at lw_m4 72 rfl) rfl
theorem q970 : (Jvm.Cond.soleField "LandMap$Algebra" "stack") ∈ lw_all := lw_g (lw_at lw_m4 73 rfl) rfl
theorem q971 : (Jvm.Cond.lays "LandMap$Algebra" "LandMap$Algebra" "height" "I") ∈ lw_all := lw_g (lw_at lw_m4 74 rfl) rfl
theorem q972 : (Jvm.Cond.soleField "LandMap$Algebra" "height") ∈ lw_all := lw_g (lw_at lw_m4 75 rfl) rfl
theorem q973 : (Jvm.Cond.lays "LandMap$Algebra" "LandMap$Algebra" "w" "I") ∈ lw_all := lw_g (lw_at lw_m4 76 rfl) rfl
theorem q974 : (Jvm.Cond.soleField "LandMap$Algebra" "w") ∈ lw_all := lw_g (lw_at lw_m4 77 rfl) rfl
theorem q975 : (Jvm.Cond.lays "LandMap$Algebra" "LandMap$Algebra" "h" "I") ∈ lw_all := lw_g (lw_at lw_m4 78 rfl) rfl
theorem q976 : (Jvm.Cond.soleField "LandMap$Algebra" "h") ∈ lw_all := lw_g (lw_at lw_m4 79 rfl) rfl
theorem q977 : (Jvm.Cond.superclass "LandMap$Algebra" "java/lang/Object") ∈ lw_all := lw_g (lw_at lw_m4 80 rfl) rfl
theorem q978 : (Jvm.Cond.classLink "LandMap" (128 : Nat) "LandMap$Spread") ∈ lw_all := lw_g (lw_at lw_m4 81 rfl) rfl
theorem q979 : (Jvm.Cond.instantiable "LandMap$Spread" (2 : Nat)) ∈ lw_all := lw_g (lw_at lw_m4 82 rfl) rfl
theorem q980 : (Jvm.Cond.methodLinkNest "LandMap" (130 : Nat) ({ cls := "LandMap$Spread", name := "<init>", desc := "()V" } : Jvm.MethodName) "LandMap") ∈ lw_tbl := lw_at lw_m4 83 rfl
theorem q981 : (Jvm.Cond.instanceMethod ({ cls := "LandMap$Spread", name := "<init>", desc := "()V" } : Jvm.MethodName)) ∈ lw_all := lw_g (lw_at lw_m4 84 rfl) rfl
theorem q982 : (Jvm.Cond.code ({ cls := "LandMap$Spread", name := "<init>", desc := "()V" } : Jvm.MethodName) prog_22_method_1_code (1 : Nat) (Option.none : Option Jvm.ClassFile.FieldType)) ∈ lw_all := lw_g (lw_at lw_m4 85 rfl) rfl
theorem q983 : (Jvm.Cond.methodLink "LandMap$Spread" (1 : Nat) ({ cls := "java/lang/Object", name := "<init>", desc := "()V" } : Jvm.MethodName)) ∈ lw_all := lw_g (lw_at lw_m4 86 rfl) rfl
theorem q984 : (Jvm.Cond.classLink "LandMap$Spread" (7 : Nat) "LandMap$Heap") ∈ lw_all := lw_g (lw_at lw_m4 87 rfl) rfl
theorem q985 : (Jvm.Cond.methodLink "LandMap$Spread" (9 : Nat) ({ cls := "LandMap$Heap", name := "<init>", desc := "(I)V" } : Jvm.MethodName)) ∈ lw_all := lw_g (lw_at lw_m4 88 rfl) rfl
theorem q986 : (Jvm.Cond.fieldLink "LandMap$Spread" (12 : Nat) "LandMap$Spread" "heap" "LLandMap$Heap;") ∈ lw_all := lw_g (lw_at lw_m4 89 rfl) rfl
theorem q987 : (Jvm.Cond.fieldLink "LandMap$Spread" (18 : Nat) "LandMap$Spread" "costs" "LLandMap$Raster;") ∈ lw_all := lw_g (lw_at lw_m4 90 rfl) rfl
theorem q988 : (Jvm.Cond.laysFinal "LandMap$Spread" "LandMap$Spread" "heap" "LLandMap$Heap;") ∈ lw_all := lw_g (lw_at lw_m4 91 rfl) rfl
theorem q989 : (Jvm.Cond.soleField "LandMap$Spread" "heap") ∈ lw_all := lw_g (lw_at lw_m4 92 rfl) rfl
theorem q990 : (Jvm.Cond.lays "LandMap$Spread" "LandMap$Spread" "costs" "LLandMap$Raster;") ∈ lw_all := lw_g (lw_at lw_m4 93 rfl) rfl
theorem q991 : (Jvm.Cond.soleField "LandMap$Spread" "costs") ∈ lw_all := lw_g (lw_at lw_m4 94 rfl) rfl
theorem q992 : (Jvm.Cond.superclass "LandMap$Spread" "java/lang/Object") ∈ lw_all := lw_g (lw_at lw_m4 95 rfl) rfl
theorem q993 : (Jvm.Cond.fieldLink "LandMap" (9 : Nat) "LandMap" "tray" "[B") ∈ lw_all := lw_g (lw_at lw_m4 96 rfl) rfl
theorem q994 : (Jvm.Cond.fieldLink "LandMap" (138 : Nat) "LandMap" "trayed" "I") ∈ lw_all := lw_g (lw_at lw_m4 97 rfl) rfl
theorem q995 : (Jvm.Cond.fieldLink "LandMap" (141 : Nat) "LandMap" "fed" "I") ∈ lw_all := lw_g (lw_at lw_m4 98 rfl) rfl
theorem q996 : (Jvm.Cond.fieldLink "LandMap" (16 : Nat) "LandMap" "stop" "LLandMap$Stop;") ∈ lw_all := lw_g (lw_at lw_m4 99 rfl) rfl
theorem q997 : (Jvm.Cond.fieldLink "LandMap" (25 : Nat) "LandMap" "scan" "LLandMap$Scan;") ∈ lw_all := lw_g (lw_at lw_m4 100 rfl) rfl
theorem q998 : (Jvm.Cond.fieldLink "LandMap" (34 : Nat) "LandMap" "texts" "LLandMap$FeatureTexts;") ∈ lw_all := lw_g (lw_at lw_m4 101 rfl) rfl
theorem q999 : (Jvm.Cond.fieldLink "LandMap" (43 : Nat) "LandMap" "came" "Ljava/util/ArrayList;") ∈ lw_all := lw_g (lw_at lw_m4 102 rfl) rfl
theorem q1000 : (Jvm.Cond.fieldLink "LandMap" (50 : Nat) "LandMap" "rules" "LLandMap$Rules;") ∈ lw_all := lw_g (lw_at lw_m4 103 rfl) rfl
theorem q1001 : (Jvm.Cond.fieldLink "LandMap" (57 : Nat) "LandMap" "relation" "LLandMap$Relation;") ∈ lw_all := lw_g (lw_at lw_m4 104 rfl) rfl
theorem q1002 : (Jvm.Cond.fieldLink "LandMap" (64 : Nat) "LandMap" "overlay" "LLandMap$Overlay;") ∈ lw_all := lw_g (lw_at lw_m4 105 rfl) rfl
theorem q1003 : (Jvm.Cond.fieldLink "LandMap" (71 : Nat) "LandMap" "roads" "LLandMap$Roads;") ∈ lw_all := lw_g (lw_at lw_m4 106 rfl) rfl
theorem q1004 : (Jvm.Cond.fieldLink "LandMap" (78 : Nat) "LandMap" "draft" "LLandMap$Draft;") ∈ lw_all := lw_g (lw_at lw_m4 107 rfl) rfl
theorem q1005 : (Jvm.Cond.fieldLink "LandMap" (85 : Nat) "LandMap" "now" "LLandMap$Laid;") ∈ lw_all := lw_g (lw_at lw_m4 108 rfl) rfl
theorem q1006 : (Jvm.Cond.fieldLink "LandMap" (89 : Nat) "LandMap" "work" "LLandMap$Laid;") ∈ lw_all := lw_g (lw_at lw_m4 109 rfl) rfl
theorem q1007 : (Jvm.Cond.fieldLink "LandMap" (326 : Nat) "LandMap" "isLaid" "Z") ∈ lw_all := lw_g (lw_at lw_m4 110 rfl) rfl
theorem q1008 : (Jvm.Cond.fieldLink "LandMap" (98 : Nat) "LandMap" "state" "LLandMap$State;") ∈ lw_all := lw_g (lw_at lw_m4 111 rfl) rfl
theorem q1009 : (Jvm.Cond.fieldLink "LandMap" (166 : Nat) "LandMap" "undos" "I") ∈ lw_all := lw_g (lw_at lw_m4 112 rfl) rfl
theorem q1010 : (Jvm.Cond.fieldLink "LandMap" (213 : Nat) "LandMap" "made" "I") ∈ lw_all := lw_g (lw_at lw_m4 113 rfl) rfl
theorem q1011 : (Jvm.Cond.fieldLink "LandMap" (102 : Nat) "LandMap" "place" "I") ∈ lw_all := lw_g (lw_at lw_m4 114 rfl) rfl
theorem q1012 : (Jvm.Cond.fieldLink "LandMap" (175 : Nat) "LandMap" "rule" "I") ∈ lw_all := lw_g (lw_at lw_m4 115 rfl) rfl
theorem q1013 : (Jvm.Cond.fieldLink "LandMap" (106 : Nat) "LandMap" "broken" "I") ∈ lw_all := lw_g (lw_at lw_m4 116 rfl) rfl
theorem q1014 : (Jvm.Cond.fieldLink "LandMap" (109 : Nat) "LandMap" "spotXs" "[I") ∈ lw_all := lw_g (lw_at lw_m4 117 rfl) rfl
theorem q1015 : (Jvm.Cond.fieldLink "LandMap" (113 : Nat) "LandMap" "spotYs" "[I") ∈ lw_all := lw_g (lw_at lw_m4 118 rfl) rfl
theorem q1016 : (Jvm.Cond.fieldLink "LandMap" (135 : Nat) "LandMap" "spots" "I") ∈ lw_all := lw_g (lw_at lw_m4 119 rfl) rfl
theorem q1017 : (Jvm.Cond.fieldLink "LandMap" (396 : Nat) "LandMap" "otherLayer" "I") ∈ lw_all := lw_g (lw_at lw_m4 120 rfl) rfl
theorem q1018 : (Jvm.Cond.fieldLink "LandMap" (399 : Nat) "LandMap" "otherFeature" "I") ∈ lw_all := lw_g (lw_at lw_m4 121 rfl) rfl
theorem q1019 : (Jvm.Cond.fieldLink "LandMap" (439 : Nat) "LandMap" "cornerX" "I") ∈ lw_all := lw_g (lw_at lw_m4 122 rfl) rfl
theorem q1020 : (Jvm.Cond.fieldLink "LandMap" (442 : Nat) "LandMap" "cornerY" "I") ∈ lw_all := lw_g (lw_at lw_m4 123 rfl) rfl
theorem q1021 : (Jvm.Cond.fieldLink "LandMap" (116 : Nat) "LandMap" "rasters" "Ljava/util/ArrayList;") ∈ lw_all := lw_g (lw_at lw_m4 124 rfl) rfl
theorem q1022 : (Jvm.Cond.fieldLink "LandMap" (124 : Nat) "LandMap" "algebra" "LLandMap$Algebra;") ∈ lw_all := lw_g (lw_at lw_m4 125 rfl) rfl
theorem q1023 : (Jvm.Cond.fieldLink "LandMap" (131 : Nat) "LandMap" "spread" "LLandMap$Spread;") ∈ lw_all := lw_g (lw_at lw_m4 126 rfl) rfl
theorem q1024 : (Jvm.Cond.laysFinal "LandMap" "LandMap" "tray" "[B") ∈ lw_all := lw_g (lw_at lw_m4 127 rfl) rfl
theorem q1025 : (Jvm.Cond.soleField "LandMap" "tray") ∈ lw_all := lw_g (lw_at lw_m4 128 rfl) rfl
theorem q1026 : (Jvm.Cond.lays "LandMap" "LandMap" "trayed" "I") ∈ lw_all := lw_g (lw_at lw_m4 129 rfl) rfl
theorem q1027 : (Jvm.Cond.soleField "LandMap" "trayed") ∈ lw_all := lw_g (lw_at lw_m4 130 rfl) rfl
theorem q1028 : (Jvm.Cond.lays "LandMap" "LandMap" "fed" "I") ∈ lw_all := lw_g (lw_at lw_m4 131 rfl) rfl
theorem q1029 : (Jvm.Cond.soleField "LandMap" "fed") ∈ lw_all := lw_g (lw_at lw_m4 132 rfl) rfl
theorem q1030 : (Jvm.Cond.laysFinal "LandMap" "LandMap" "stop" "LLandMap$Stop;") ∈ lw_all := lw_g (lw_at lw_m4 133 rfl) rfl
theorem q1031 : (Jvm.Cond.soleField "LandMap" "stop") ∈ lw_all := lw_g (lw_at lw_m4 134 rfl) rfl
theorem q1032 : (Jvm.Cond.laysFinal "LandMap" "LandMap" "scan" "LLandMap$Scan;") ∈ lw_all := lw_g (lw_at lw_m4 135 rfl) rfl
theorem q1033 : (Jvm.Cond.soleField "LandMap" "scan") ∈ lw_all := lw_g (lw_at lw_m4 136 rfl) rfl
theorem q1034 : (Jvm.Cond.laysFinal "LandMap" "LandMap" "texts" "LLandMap$FeatureTexts;") ∈ lw_all := lw_g (lw_at lw_m4 137 rfl) rfl
theorem q1035 : (Jvm.Cond.soleField "LandMap" "texts") ∈ lw_all := lw_g (lw_at lw_m4 138 rfl) rfl
theorem q1036 : (Jvm.Cond.laysFinal "LandMap" "LandMap" "came" "Ljava/util/ArrayList;") ∈ lw_all := lw_g (lw_at lw_m4 139 rfl) rfl
theorem q1037 : (Jvm.Cond.soleField "LandMap" "came") ∈ lw_all := lw_g (lw_at lw_m4 140 rfl) rfl
theorem q1038 : (Jvm.Cond.laysFinal "LandMap" "LandMap" "rules" "LLandMap$Rules;") ∈ lw_all := lw_g (lw_at lw_m4 141 rfl) rfl
theorem q1039 : (Jvm.Cond.soleField "LandMap" "rules") ∈ lw_all := lw_g (lw_at lw_m4 142 rfl) rfl
theorem q1040 : (Jvm.Cond.laysFinal "LandMap" "LandMap" "relation" "LLandMap$Relation;") ∈ lw_all := lw_g (lw_at lw_m4 143 rfl) rfl
theorem q1041 : (Jvm.Cond.soleField "LandMap" "relation") ∈ lw_all := lw_g (lw_at lw_m4 144 rfl) rfl
theorem q1042 : (Jvm.Cond.laysFinal "LandMap" "LandMap" "overlay" "LLandMap$Overlay;") ∈ lw_all := lw_g (lw_at lw_m4 145 rfl) rfl
theorem q1043 : (Jvm.Cond.soleField "LandMap" "overlay") ∈ lw_all := lw_g (lw_at lw_m4 146 rfl) rfl
theorem q1044 : (Jvm.Cond.laysFinal "LandMap" "LandMap" "roads" "LLandMap$Roads;") ∈ lw_all := lw_g (lw_at lw_m4 147 rfl) rfl
theorem q1045 : (Jvm.Cond.soleField "LandMap" "roads") ∈ lw_all := lw_g (lw_at lw_m4 148 rfl) rfl
theorem q1046 : (Jvm.Cond.laysFinal "LandMap" "LandMap" "draft" "LLandMap$Draft;") ∈ lw_all := lw_g (lw_at lw_m4 149 rfl) rfl
theorem q1047 : (Jvm.Cond.soleField "LandMap" "draft") ∈ lw_all := lw_g (lw_at lw_m4 150 rfl) rfl
theorem q1048 : (Jvm.Cond.lays "LandMap" "LandMap" "now" "LLandMap$Laid;") ∈ lw_all := lw_g (lw_at lw_m4 151 rfl) rfl
theorem q1049 : (Jvm.Cond.soleField "LandMap" "now") ∈ lw_all := lw_g (lw_at lw_m4 152 rfl) rfl
theorem q1050 : (Jvm.Cond.lays "LandMap" "LandMap" "work" "LLandMap$Laid;") ∈ lw_all := lw_g (lw_at lw_m4 153 rfl) rfl
theorem q1051 : (Jvm.Cond.soleField "LandMap" "work") ∈ lw_all := lw_g (lw_at lw_m4 154 rfl) rfl
theorem q1052 : (Jvm.Cond.lays "LandMap" "LandMap" "isLaid" "Z") ∈ lw_all := lw_g (lw_at lw_m4 155 rfl) rfl
theorem q1053 : (Jvm.Cond.soleField "LandMap" "isLaid") ∈ lw_all := lw_g (lw_at lw_m4 156 rfl) rfl
theorem q1054 : (Jvm.Cond.lays "LandMap" "LandMap" "state" "LLandMap$State;") ∈ lw_all := lw_g (lw_at lw_m4 157 rfl) rfl
theorem q1055 : (Jvm.Cond.soleField "LandMap" "state") ∈ lw_all := lw_g (lw_at lw_m4 158 rfl) rfl
theorem q1056 : (Jvm.Cond.lays "LandMap" "LandMap" "undos" "I") ∈ lw_all := lw_g (lw_at lw_m4 159 rfl) rfl
theorem q1057 : (Jvm.Cond.soleField "LandMap" "undos") ∈ lw_all := lw_g (lw_at lw_m4 160 rfl) rfl
theorem q1058 : (Jvm.Cond.lays "LandMap" "LandMap" "made" "I") ∈ lw_all := lw_g (lw_at lw_m4 161 rfl) rfl
theorem q1059 : (Jvm.Cond.soleField "LandMap" "made") ∈ lw_all := lw_g (lw_at lw_m4 162 rfl) rfl
theorem q1060 : (Jvm.Cond.lays "LandMap" "LandMap" "place" "I") ∈ lw_all := lw_g (lw_at lw_m4 163 rfl) rfl
theorem q1061 : (Jvm.Cond.soleField "LandMap" "place") ∈ lw_all := lw_g (lw_at lw_m4 164 rfl) rfl
theorem q1062 : (Jvm.Cond.lays "LandMap" "LandMap" "rule" "I") ∈ lw_all := lw_g (lw_at lw_m4 165 rfl) rfl
theorem q1063 : (Jvm.Cond.soleField "LandMap" "rule") ∈ lw_all := lw_g (lw_at lw_m4 166 rfl) rfl
theorem q1064 : (Jvm.Cond.lays "LandMap" "LandMap" "broken" "I") ∈ lw_all := lw_g (lw_at lw_m4 167 rfl) rfl
theorem q1065 : (Jvm.Cond.soleField "LandMap" "broken") ∈ lw_all := lw_g (lw_at lw_m4 168 rfl) rfl
theorem q1066 : (Jvm.Cond.laysFinal "LandMap" "LandMap" "spotXs" "[I") ∈ lw_all := lw_g (lw_at lw_m4 169 rfl) rfl
theorem q1067 : (Jvm.Cond.soleField "LandMap" "spotXs") ∈ lw_all := lw_g (lw_at lw_m4 170 rfl) rfl
theorem q1068 : (Jvm.Cond.laysFinal "LandMap" "LandMap" "spotYs" "[I") ∈ lw_all := lw_g (lw_at lw_m4 171 rfl) rfl
theorem q1069 : (Jvm.Cond.soleField "LandMap" "spotYs") ∈ lw_all := lw_g (lw_at lw_m4 172 rfl) rfl
theorem q1070 : (Jvm.Cond.lays "LandMap" "LandMap" "spots" "I") ∈ lw_all := lw_g (lw_at lw_m4 173 rfl) rfl
theorem q1071 : (Jvm.Cond.soleField "LandMap" "spots") ∈ lw_all := lw_g (lw_at lw_m4 174 rfl) rfl
theorem q1072 : (Jvm.Cond.lays "LandMap" "LandMap" "otherLayer" "I") ∈ lw_all := lw_g (lw_at lw_m4 175 rfl) rfl
theorem q1073 : (Jvm.Cond.soleField "LandMap" "otherLayer") ∈ lw_all := lw_g (lw_at lw_m4 176 rfl) rfl
theorem q1074 : (Jvm.Cond.lays "LandMap" "LandMap" "otherFeature" "I") ∈ lw_all := lw_g (lw_at lw_m4 177 rfl) rfl
theorem q1075 : (Jvm.Cond.soleField "LandMap" "otherFeature") ∈ lw_all := lw_g (lw_at lw_m4 178 rfl) rfl
theorem q1076 : (Jvm.Cond.lays "LandMap" "LandMap" "cornerX" "I") ∈ lw_all := lw_g (lw_at lw_m4 179 rfl) rfl
theorem q1077 : (Jvm.Cond.soleField "LandMap" "cornerX") ∈ lw_all := lw_g (lw_at lw_m4 180 rfl) rfl
theorem q1078 : (Jvm.Cond.lays "LandMap" "LandMap" "cornerY" "I") ∈ lw_all := lw_g (lw_at lw_m4 181 rfl) rfl
theorem q1079 : (Jvm.Cond.soleField "LandMap" "cornerY") ∈ lw_all := lw_g (lw_at lw_m4 182 rfl) rfl
theorem q1080 : (Jvm.Cond.laysFinal "LandMap" "LandMap" "rasters" "Ljava/util/ArrayList;") ∈ lw_all := lw_g (lw_at lw_m4 183 rfl) rfl
theorem q1081 : (Jvm.Cond.soleField "LandMap" "rasters") ∈ lw_all := lw_g (lw_at lw_m4 184 rfl) rfl
theorem q1082 : (Jvm.Cond.laysFinal "LandMap" "LandMap" "algebra" "LLandMap$Algebra;") ∈ lw_all := lw_g (lw_at lw_m4 185 rfl) rfl
theorem q1083 : (Jvm.Cond.soleField "LandMap" "algebra") ∈ lw_all := lw_g (lw_at lw_m4 186 rfl) rfl
theorem q1084 : (Jvm.Cond.laysFinal "LandMap" "LandMap" "spread" "LLandMap$Spread;") ∈ lw_all := lw_g (lw_at lw_m4 187 rfl) rfl
theorem q1085 : (Jvm.Cond.soleField "LandMap" "spread") ∈ lw_all := lw_g (lw_at lw_m4 188 rfl) rfl
theorem q1086 : (Jvm.Cond.superclass "LandMap" "java/lang/Object") ∈ lw_all := lw_g (lw_at lw_m4 189 rfl) rfl
theorem q1087 : (Jvm.Cond.methodLink "LandMapLaw" (13 : Nat) ({ cls := "LandMap", name := "feed", desc := "(IIIII)I" } : Jvm.MethodName)) ∈ lw_all := lw_g (lw_at lw_m4 190 rfl) rfl
theorem q1088 : (Jvm.Cond.instanceMethod ({ cls := "LandMap", name := "feed", desc := "(IIIII)I" } : Jvm.MethodName)) ∈ lw_all := lw_g (lw_at lw_m4 191 rfl) rfl
theorem q1089 : (Jvm.Cond.selects "LandMap" ({ cls := "LandMap", name := "feed", desc := "(IIIII)I" } : Jvm.MethodName) ({ cls := "LandMap", name := "feed", desc := "(IIIII)I" } : Jvm.MethodName)) ∈ lw_all := lw_g (lw_at lw_m4 192 rfl) rfl
theorem q1090 : (Jvm.Cond.code ({ cls := "LandMap", name := "feed", desc := "(IIIII)I" } : Jvm.MethodName) prog_1_method_2_code (6 : Nat) (Option.some Jvm.ClassFile.FieldType.int)) ∈ lw_all := lw_g (lw_at lw_m4 193 rfl) rfl
theorem q1091 : (Jvm.Cond.constant "LandMap" (144 : Nat) (65536 : Int32)) ∈ lw_all := lw_g (lw_at lw_m4 194 rfl) rfl
theorem q1092 : (Jvm.Cond.methodLink "LandMap" (145 : Nat) ({ cls := "LandMap", name := "four", desc := "(I)V" } : Jvm.MethodName)) ∈ lw_all := lw_g (lw_at lw_m4 195 rfl) rfl
theorem q1093 : (Jvm.Cond.privateMethod ({ cls := "LandMap", name := "four", desc := "(I)V" } : Jvm.MethodName)) ∈ lw_tbl := lw_at lw_m4 196 rfl
theorem q1094 : (Jvm.Cond.instanceMethod ({ cls := "LandMap", name := "four", desc := "(I)V" } : Jvm.MethodName)) ∈ lw_all := lw_g (lw_at lw_m4 197 rfl) rfl
theorem q1095 : (Jvm.Cond.code ({ cls := "LandMap", name := "four", desc := "(I)V" } : Jvm.MethodName) prog_1_method_3_code (3 : Nat) (Option.none : Option Jvm.ClassFile.FieldType)) ∈ lw_all := lw_g (lw_at lw_m4 198 rfl) rfl
theorem q1096 : (Jvm.Cond.methodLink "LandMapLaw" (18 : Nat) ({ cls := "LandMap", name := "end", desc := "(I)Z" } : Jvm.MethodName)) ∈ lw_all := lw_g (lw_at lw_m4 199 rfl) rfl
theorem q1097 : (Jvm.Cond.instanceMethod ({ cls := "LandMap", name := "end", desc := "(I)Z" } : Jvm.MethodName)) ∈ lw_all := lw_g (lw_at lw_m4 200 rfl) rfl
theorem q1098 : (Jvm.Cond.selects "LandMap" ({ cls := "LandMap", name := "end", desc := "(I)Z" } : Jvm.MethodName) ({ cls := "LandMap", name := "end", desc := "(I)Z" } : Jvm.MethodName)) ∈ lw_all := lw_g (lw_at lw_m4 201 rfl) rfl
theorem q1099 : (Jvm.Cond.code ({ cls := "LandMap", name := "end", desc := "(I)Z" } : Jvm.MethodName) prog_1_method_4_code (2 : Nat) (Option.some Jvm.ClassFile.FieldType.boolean)) ∈ lw_all := lw_g (lw_at lw_m4 202 rfl) rfl
theorem q1100 : (Jvm.Cond.methodLink "LandMapLaw" (23 : Nat) ({ cls := "LandMap", name := "read", desc := "(I)I" } : Jvm.MethodName)) ∈ lw_all := lw_g (lw_at lw_m4 203 rfl) rfl
theorem q1101 : (Jvm.Cond.instanceMethod ({ cls := "LandMap", name := "read", desc := "(I)I" } : Jvm.MethodName)) ∈ lw_all := lw_g (lw_at lw_m4 204 rfl) rfl
theorem q1102 : (Jvm.Cond.selects "LandMap" ({ cls := "LandMap", name := "read", desc := "(I)I" } : Jvm.MethodName) ({ cls := "LandMap", name := "read", desc := "(I)I" } : Jvm.MethodName)) ∈ lw_all := lw_g (lw_at lw_m4 205 rfl) rfl
theorem q1103 : (Jvm.Cond.codeWith ({ cls := "LandMap", name := "read", desc := "(I)I" } : Jvm.MethodName) prog_1_method_9_code (7 : Nat) (Option.some Jvm.ClassFile.FieldType.int) [((49 : Nat), (60 : Nat), (63 : Nat), (193 : Nat))]) ∈ lw_all := lw_g (lw_at lw_m4 206 rfl) rfl
theorem q1104 : (Jvm.Cond.classLink "LandMap" (193 : Nat) "java/lang/IllegalStateException") ∈ lw_all := lw_g (lw_at lw_m4 207 rfl) rfl
theorem q1105 : (Jvm.Cond.methodLink "LandMap" (178 : Nat) ({ cls := "LandMap", name := "used", desc := "()I" } : Jvm.MethodName)) ∈ lw_all := lw_g (lw_at lw_m4 208 rfl) rfl
theorem q1106 : (Jvm.Cond.privateMethod ({ cls := "LandMap", name := "used", desc := "()I" } : Jvm.MethodName)) ∈ lw_tbl := lw_at lw_m4 209 rfl
theorem q1107 : (Jvm.Cond.instanceMethod ({ cls := "LandMap", name := "used", desc := "()I" } : Jvm.MethodName)) ∈ lw_all := lw_g (lw_at lw_m4 210 rfl) rfl
theorem q1108 : (Jvm.Cond.code ({ cls := "LandMap", name := "used", desc := "()I" } : Jvm.MethodName) prog_1_method_5_code (2 : Nat) (Option.some Jvm.ClassFile.FieldType.int)) ∈ lw_all := lw_g (lw_at lw_m4 211 rfl) rfl
theorem q1109 : (Jvm.Cond.methodLink "LandMap" (148 : Nat) ({ cls := "LandMap", name := "isLayer", desc := "(I)Z" } : Jvm.MethodName)) ∈ lw_all := lw_g (lw_at lw_m4 212 rfl) rfl
theorem q1110 : (Jvm.Cond.static ({ cls := "LandMap", name := "isLayer", desc := "(I)Z" } : Jvm.MethodName)) ∈ lw_all := lw_g (lw_at lw_m4 213 rfl) rfl
theorem q1111 : (Jvm.Cond.code ({ cls := "LandMap", name := "isLayer", desc := "(I)Z" } : Jvm.MethodName) prog_1_method_6_code (1 : Nat) (Option.some Jvm.ClassFile.FieldType.boolean)) ∈ lw_all := lw_g (lw_at lw_m4 214 rfl) rfl
theorem q1112 : (Jvm.Cond.methodLink "LandMap" (182 : Nat) ({ cls := "java/util/ArrayList", name := "clear", desc := "()V" } : Jvm.MethodName)) ∈ lw_all := lw_g (lw_at lw_m4 215 rfl) rfl
theorem q1113 : (Jvm.Cond.instanceMethod ({ cls := "java/util/ArrayList", name := "clear", desc := "()V" } : Jvm.MethodName)) ∈ lw_all := lw_g (lw_at lw_m4 216 rfl) rfl
theorem q1114 : (Jvm.Cond.selects "java/util/ArrayList" ({ cls := "java/util/ArrayList", name := "clear", desc := "()V" } : Jvm.MethodName) ({ cls := "java/util/ArrayList", name := "clear", desc := "()V" } : Jvm.MethodName)) ∈ lw_all := lw_g (lw_at lw_m4 217 rfl) rfl
theorem q1115 : (Jvm.Cond.code ({ cls := "java/util/ArrayList", name := "clear", desc := "()V" } : Jvm.MethodName) prog_70_method_40_code (4 : Nat) (Option.none : Option Jvm.ClassFile.FieldType)) ∈ lw_all := lw_g (lw_at lw_m4 218 rfl) rfl
theorem q1116 : (Jvm.Cond.methodLink "LandMap" (185 : Nat) ({ cls := "LandMap$Scan", name := "open", desc := "([BI)V" } : Jvm.MethodName)) ∈ lw_all := lw_g (lw_at lw_m4 219 rfl) rfl
theorem q1117 : (Jvm.Cond.instanceMethod ({ cls := "LandMap$Scan", name := "open", desc := "([BI)V" } : Jvm.MethodName)) ∈ lw_all := lw_g (lw_at lw_m4 220 rfl) rfl
theorem q1118 : (Jvm.Cond.selects "LandMap$Scan" ({ cls := "LandMap$Scan", name := "open", desc := "([BI)V" } : Jvm.MethodName) ({ cls := "LandMap$Scan", name := "open", desc := "([BI)V" } : Jvm.MethodName)) ∈ lw_all := lw_g (lw_at lw_m4 221 rfl) rfl
theorem q1119 : (Jvm.Cond.code ({ cls := "LandMap$Scan", name := "open", desc := "([BI)V" } : Jvm.MethodName) prog_20_method_2_code (3 : Nat) (Option.none : Option Jvm.ClassFile.FieldType)) ∈ lw_all := lw_g (lw_at lw_m4 222 rfl) rfl
theorem q1120 : (Jvm.Cond.methodLink "LandMap" (189 : Nat) ({ cls := "LandMap$FeatureTexts", name := "read", desc := "(Ljava/util/ArrayList;)V" } : Jvm.MethodName)) ∈ lw_all := lw_g (lw_at lw_m4 223 rfl) rfl
theorem q1121 : (Jvm.Cond.instanceMethod ({ cls := "LandMap$FeatureTexts", name := "read", desc := "(Ljava/util/ArrayList;)V" } : Jvm.MethodName)) ∈ lw_all := lw_g (lw_at lw_m4 224 rfl) rfl
theorem q1122 : (Jvm.Cond.selects "LandMap$FeatureTexts" ({ cls := "LandMap$FeatureTexts", name := "read", desc := "(Ljava/util/ArrayList;)V" } : Jvm.MethodName) ({ cls := "LandMap$FeatureTexts", name := "read", desc := "(Ljava/util/ArrayList;)V" } : Jvm.MethodName)) ∈ lw_all := lw_g (lw_at lw_m4 225 rfl) rfl
theorem q1123 : (Jvm.Cond.code ({ cls := "LandMap$FeatureTexts", name := "read", desc := "(Ljava/util/ArrayList;)V" } : Jvm.MethodName) prog_8_method_2_code (2 : Nat) (Option.none : Option Jvm.ClassFile.FieldType)) ∈ lw_all := lw_g (lw_at lw_m4 226 rfl) rfl
theorem q1124 : (Jvm.Cond.methodLink "LandMap$FeatureTexts" (22 : Nat) ({ cls := "LandMap$FeatureTexts", name := "feature", desc := "()LLandMap$Feature;" } : Jvm.MethodName)) ∈ lw_all := lw_g (lw_at lw_m4 227 rfl) rfl
theorem q1125 : (Jvm.Cond.privateMethod ({ cls := "LandMap$FeatureTexts", name := "feature", desc := "()LLandMap$Feature;" } : Jvm.MethodName)) ∈ lw_tbl := lw_at lw_m4 228 rfl
theorem q1126 : (Jvm.Cond.instanceMethod ({ cls := "LandMap$FeatureTexts", name := "feature", desc := "()LLandMap$Feature;" } : Jvm.MethodName)) ∈ lw_all := lw_g (lw_at lw_m4 229 rfl) rfl
theorem q1127 : (Jvm.Cond.code ({ cls := "LandMap$FeatureTexts", name := "feature", desc := "()LLandMap$Feature;" } : Jvm.MethodName) prog_8_method_3_code (3 : Nat) (Option.some (Jvm.ClassFile.FieldType.object "LandMap$Feature"))) ∈ lw_all := lw_g (lw_at lw_m4 230 rfl) rfl
theorem q1128 : (Jvm.Cond.methodLink "LandMap$FeatureTexts" (38 : Nat) ({ cls := "LandMap$Scan", name := "isNumber", desc := "()Z" } : Jvm.MethodName)) ∈ lw_all := lw_g (lw_at lw_m4 231 rfl) rfl
theorem q1129 : (Jvm.Cond.instanceMethod ({ cls := "LandMap$Scan", name := "isNumber", desc := "()Z" } : Jvm.MethodName)) ∈ lw_all := lw_g (lw_at lw_m4 232 rfl) rfl
theorem q1130 : (Jvm.Cond.selects "LandMap$Scan" ({ cls := "LandMap$Scan", name := "isNumber", desc := "()Z" } : Jvm.MethodName) ({ cls := "LandMap$Scan", name := "isNumber", desc := "()Z" } : Jvm.MethodName)) ∈ lw_all := lw_g (lw_at lw_m4 233 rfl) rfl
theorem q1131 : (Jvm.Cond.code ({ cls := "LandMap$Scan", name := "isNumber", desc := "()Z" } : Jvm.MethodName) prog_20_method_10_code (1 : Nat) (Option.some Jvm.ClassFile.FieldType.boolean)) ∈ lw_all := lw_g (lw_at lw_m4 234 rfl) rfl
theorem q1132 : (Jvm.Cond.methodLink "LandMap$Scan" (39 : Nat) ({ cls := "LandMap$Scan", name := "look", desc := "()I" } : Jvm.MethodName)) ∈ lw_all := lw_g (lw_at lw_m4 235 rfl) rfl
theorem q1133 : (Jvm.Cond.instanceMethod ({ cls := "LandMap$Scan", name := "look", desc := "()I" } : Jvm.MethodName)) ∈ lw_all := lw_g (lw_at lw_m4 236 rfl) rfl
theorem q1134 : (Jvm.Cond.selects "LandMap$Scan" ({ cls := "LandMap$Scan", name := "look", desc := "()I" } : Jvm.MethodName) ({ cls := "LandMap$Scan", name := "look", desc := "()I" } : Jvm.MethodName)) ∈ lw_all := lw_g (lw_at lw_m4 237 rfl) rfl
theorem q1135 : (Jvm.Cond.code ({ cls := "LandMap$Scan", name := "look", desc := "()I" } : Jvm.MethodName) prog_20_method_6_code (1 : Nat) (Option.some Jvm.ClassFile.FieldType.int)) ∈ lw_all := lw_g (lw_at lw_m4 238 rfl) rfl
theorem q1136 : (Jvm.Cond.methodLink "LandMap$Scan" (35 : Nat) ({ cls := "LandMap$Scan", name := "raw", desc := "(I)I" } : Jvm.MethodName)) ∈ lw_all := lw_g (lw_at lw_m4 239 rfl) rfl
theorem q1137 : (Jvm.Cond.privateMethod ({ cls := "LandMap$Scan", name := "raw", desc := "(I)I" } : Jvm.MethodName)) ∈ lw_tbl := lw_at lw_m5 0 rfl
theorem q1138 : (Jvm.Cond.instanceMethod ({ cls := "LandMap$Scan", name := "raw", desc := "(I)I" } : Jvm.MethodName)) ∈ lw_all := lw_g (lw_at lw_m5 1 rfl) rfl
theorem q1139 : (Jvm.Cond.code ({ cls := "LandMap$Scan", name := "raw", desc := "(I)I" } : Jvm.MethodName) prog_20_method_5_code (2 : Nat) (Option.some Jvm.ClassFile.FieldType.int)) ∈ lw_all := lw_g (lw_at lw_m5 2 rfl) rfl
theorem q1140 : (Jvm.Cond.methodLink "LandMap$Scan" (51 : Nat) ({ cls := "LandMap$Scan", name := "isDigit", desc := "(I)Z" } : Jvm.MethodName)) ∈ lw_all := lw_g (lw_at lw_m5 3 rfl) rfl
theorem q1141 : (Jvm.Cond.static ({ cls := "LandMap$Scan", name := "isDigit", desc := "(I)Z" } : Jvm.MethodName)) ∈ lw_all := lw_g (lw_at lw_m5 4 rfl) rfl
theorem q1142 : (Jvm.Cond.code ({ cls := "LandMap$Scan", name := "isDigit", desc := "(I)Z" } : Jvm.MethodName) prog_20_method_9_code (1 : Nat) (Option.some Jvm.ClassFile.FieldType.boolean)) ∈ lw_all := lw_g (lw_at lw_m5 5 rfl) rfl
theorem q1143 : (Jvm.Cond.constant "LandMap$FeatureTexts" (42 : Nat) (-999999999 : Int32)) ∈ lw_all := lw_g (lw_at lw_m5 6 rfl) rfl
theorem q1144 : (Jvm.Cond.constant "LandMap$FeatureTexts" (43 : Nat) (999999999 : Int32)) ∈ lw_all := lw_g (lw_at lw_m5 7 rfl) rfl
theorem q1145 : (Jvm.Cond.methodLink "LandMap$FeatureTexts" (44 : Nat) ({ cls := "LandMap$Scan", name := "number", desc := "(IIZ)I" } : Jvm.MethodName)) ∈ lw_all := lw_g (lw_at lw_m5 8 rfl) rfl
theorem q1146 : (Jvm.Cond.instanceMethod ({ cls := "LandMap$Scan", name := "number", desc := "(IIZ)I" } : Jvm.MethodName)) ∈ lw_all := lw_g (lw_at lw_m5 9 rfl) rfl
theorem q1147 : (Jvm.Cond.selects "LandMap$Scan" ({ cls := "LandMap$Scan", name := "number", desc := "(IIZ)I" } : Jvm.MethodName) ({ cls := "LandMap$Scan", name := "number", desc := "(IIZ)I" } : Jvm.MethodName)) ∈ lw_all := lw_g (lw_at lw_m5 10 rfl) rfl
theorem q1148 : (Jvm.Cond.code ({ cls := "LandMap$Scan", name := "number", desc := "(IIZ)I" } : Jvm.MethodName) prog_20_method_11_code (8 : Nat) (Option.some Jvm.ClassFile.FieldType.int)) ∈ lw_all := lw_g (lw_at lw_m5 11 rfl) rfl
theorem q1149 : (Jvm.Cond.methodLink "LandMap$Scan" (47 : Nat) ({ cls := "LandMap$Scan", name := "wrongHere", desc := "()Ljava/lang/IllegalStateException;" } : Jvm.MethodName)) ∈ lw_all := lw_g (lw_at lw_m5 12 rfl) rfl
theorem q1150 : (Jvm.Cond.instanceMethod ({ cls := "LandMap$Scan", name := "wrongHere", desc := "()Ljava/lang/IllegalStateException;" } : Jvm.MethodName)) ∈ lw_all := lw_g (lw_at lw_m5 13 rfl) rfl
theorem q1151 : (Jvm.Cond.selects "LandMap$Scan" ({ cls := "LandMap$Scan", name := "wrongHere", desc := "()Ljava/lang/IllegalStateException;" } : Jvm.MethodName) ({ cls := "LandMap$Scan", name := "wrongHere", desc := "()Ljava/lang/IllegalStateException;" } : Jvm.MethodName)) ∈ lw_all := lw_g (lw_at lw_m5 14 rfl) rfl
theorem q1152 : (Jvm.Cond.code ({ cls := "LandMap$Scan", name := "wrongHere", desc := "()Ljava/lang/IllegalStateException;" } : Jvm.MethodName) prog_20_method_4_code (1 : Nat) (Option.some (Jvm.ClassFile.FieldType.object "java/lang/IllegalStateException"))) ∈ lw_all := lw_g (lw_at lw_m5 15 rfl) rfl
theorem q1153 : (Jvm.Cond.methodLink "LandMap$Scan" (31 : Nat) ({ cls := "LandMap$Scan", name := "wrong", desc := "(I)Ljava/lang/IllegalStateException;" } : Jvm.MethodName)) ∈ lw_all := lw_g (lw_at lw_m5 16 rfl) rfl
theorem q1154 : (Jvm.Cond.instanceMethod ({ cls := "LandMap$Scan", name := "wrong", desc := "(I)Ljava/lang/IllegalStateException;" } : Jvm.MethodName)) ∈ lw_all := lw_g (lw_at lw_m5 17 rfl) rfl
theorem q1155 : (Jvm.Cond.selects "LandMap$Scan" ({ cls := "LandMap$Scan", name := "wrong", desc := "(I)Ljava/lang/IllegalStateException;" } : Jvm.MethodName) ({ cls := "LandMap$Scan", name := "wrong", desc := "(I)Ljava/lang/IllegalStateException;" } : Jvm.MethodName)) ∈ lw_all := lw_g (lw_at lw_m5 18 rfl) rfl
theorem q1156 : (Jvm.Cond.code ({ cls := "LandMap$Scan", name := "wrong", desc := "(I)Ljava/lang/IllegalStateException;" } : Jvm.MethodName) prog_20_method_3_code (2 : Nat) (Option.some (Jvm.ClassFile.FieldType.object "java/lang/IllegalStateException"))) ∈ lw_all := lw_g (lw_at lw_m5 19 rfl) rfl
theorem q1157 : (Jvm.Cond.methodLink "LandMap$Scan" (26 : Nat) ({ cls := "LandMap$Stop", name := "at", desc := "(II)Ljava/lang/IllegalStateException;" } : Jvm.MethodName)) ∈ lw_all := lw_g (lw_at lw_m5 20 rfl) rfl
theorem q1158 : (Jvm.Cond.instanceMethod ({ cls := "LandMap$Stop", name := "at", desc := "(II)Ljava/lang/IllegalStateException;" } : Jvm.MethodName)) ∈ lw_all := lw_g (lw_at lw_m5 21 rfl) rfl
theorem q1159 : (Jvm.Cond.selects "LandMap$Stop" ({ cls := "LandMap$Stop", name := "at", desc := "(II)Ljava/lang/IllegalStateException;" } : Jvm.MethodName) ({ cls := "LandMap$Stop", name := "at", desc := "(II)Ljava/lang/IllegalStateException;" } : Jvm.MethodName)) ∈ lw_all := lw_g (lw_at lw_m5 22 rfl) rfl
theorem q1160 : (Jvm.Cond.code ({ cls := "LandMap$Stop", name := "at", desc := "(II)Ljava/lang/IllegalStateException;" } : Jvm.MethodName) prog_24_method_2_code (3 : Nat) (Option.some (Jvm.ClassFile.FieldType.object "java/lang/IllegalStateException"))) ∈ lw_all := lw_g (lw_at lw_m5 23 rfl) rfl
theorem q1161 : (Jvm.Cond.methodLink "LandMap$FeatureTexts" (48 : Nat) ({ cls := "LandMap$Scan", name := "expect", desc := "(C)V" } : Jvm.MethodName)) ∈ lw_all := lw_g (lw_at lw_m5 24 rfl) rfl
theorem q1162 : (Jvm.Cond.instanceMethod ({ cls := "LandMap$Scan", name := "expect", desc := "(C)V" } : Jvm.MethodName)) ∈ lw_all := lw_g (lw_at lw_m5 25 rfl) rfl
theorem q1163 : (Jvm.Cond.selects "LandMap$Scan" ({ cls := "LandMap$Scan", name := "expect", desc := "(C)V" } : Jvm.MethodName) ({ cls := "LandMap$Scan", name := "expect", desc := "(C)V" } : Jvm.MethodName)) ∈ lw_all := lw_g (lw_at lw_m5 26 rfl) rfl
theorem q1164 : (Jvm.Cond.code ({ cls := "LandMap$Scan", name := "expect", desc := "(C)V" } : Jvm.MethodName) prog_20_method_8_code (2 : Nat) (Option.none : Option Jvm.ClassFile.FieldType)) ∈ lw_all := lw_g (lw_at lw_m5 27 rfl) rfl
theorem q1165 : (Jvm.Cond.methodLink "LandMap$Scan" (43 : Nat) ({ cls := "LandMap$Scan", name := "accept", desc := "(C)Z" } : Jvm.MethodName)) ∈ lw_all := lw_g (lw_at lw_m5 28 rfl) rfl
theorem q1166 : (Jvm.Cond.instanceMethod ({ cls := "LandMap$Scan", name := "accept", desc := "(C)Z" } : Jvm.MethodName)) ∈ lw_all := lw_g (lw_at lw_m5 29 rfl) rfl
theorem q1167 : (Jvm.Cond.selects "LandMap$Scan" ({ cls := "LandMap$Scan", name := "accept", desc := "(C)Z" } : Jvm.MethodName) ({ cls := "LandMap$Scan", name := "accept", desc := "(C)Z" } : Jvm.MethodName)) ∈ lw_all := lw_g (lw_at lw_m5 30 rfl) rfl
theorem q1168 : (Jvm.Cond.code ({ cls := "LandMap$Scan", name := "accept", desc := "(C)Z" } : Jvm.MethodName) prog_20_method_7_code (2 : Nat) (Option.some Jvm.ClassFile.FieldType.boolean)) ∈ lw_all := lw_g (lw_at lw_m5 31 rfl) rfl
theorem q1169 : (Jvm.Cond.methodLink "LandMap$FeatureTexts" (52 : Nat) ({ cls := "LandMap$Draft", name := "clear", desc := "()V" } : Jvm.MethodName)) ∈ lw_all := lw_g (lw_at lw_m5 32 rfl) rfl
theorem q1170 : (Jvm.Cond.instanceMethod ({ cls := "LandMap$Draft", name := "clear", desc := "()V" } : Jvm.MethodName)) ∈ lw_all := lw_g (lw_at lw_m5 33 rfl) rfl
theorem q1171 : (Jvm.Cond.selects "LandMap$Draft" ({ cls := "LandMap$Draft", name := "clear", desc := "()V" } : Jvm.MethodName) ({ cls := "LandMap$Draft", name := "clear", desc := "()V" } : Jvm.MethodName)) ∈ lw_all := lw_g (lw_at lw_m5 34 rfl) rfl
theorem q1172 : (Jvm.Cond.code ({ cls := "LandMap$Draft", name := "clear", desc := "()V" } : Jvm.MethodName) prog_3_method_2_code (1 : Nat) (Option.none : Option Jvm.ClassFile.FieldType)) ∈ lw_all := lw_g (lw_at lw_m5 35 rfl) rfl
theorem q1173 : (Jvm.Cond.methodLink "LandMap$FeatureTexts" (55 : Nat) ({ cls := "LandMap$Scan", name := "accept", desc := "(C)Z" } : Jvm.MethodName)) ∈ lw_all := lw_g (lw_at lw_m5 36 rfl) rfl
theorem q1174 : (Jvm.Cond.methodLink "LandMap$FeatureTexts" (59 : Nat) ({ cls := "LandMap$FeatureTexts", name := "place", desc := "()V" } : Jvm.MethodName)) ∈ lw_all := lw_g (lw_at lw_m5 37 rfl) rfl
theorem q1175 : (Jvm.Cond.privateMethod ({ cls := "LandMap$FeatureTexts", name := "place", desc := "()V" } : Jvm.MethodName)) ∈ lw_tbl := lw_at lw_m5 38 rfl
theorem q1176 : (Jvm.Cond.instanceMethod ({ cls := "LandMap$FeatureTexts", name := "place", desc := "()V" } : Jvm.MethodName)) ∈ lw_all := lw_g (lw_at lw_m5 39 rfl) rfl
theorem q1177 : (Jvm.Cond.code ({ cls := "LandMap$FeatureTexts", name := "place", desc := "()V" } : Jvm.MethodName) prog_8_method_5_code (3 : Nat) (Option.none : Option Jvm.ClassFile.FieldType)) ∈ lw_all := lw_g (lw_at lw_m5 40 rfl) rfl
theorem q1178 : (Jvm.Cond.methodLink "LandMap$FeatureTexts" (76 : Nat) ({ cls := "LandMap$Draft", name := "isFull", desc := "()Z" } : Jvm.MethodName)) ∈ lw_all := lw_g (lw_at lw_m5 41 rfl) rfl
theorem q1179 : (Jvm.Cond.instanceMethod ({ cls := "LandMap$Draft", name := "isFull", desc := "()Z" } : Jvm.MethodName)) ∈ lw_all := lw_g (lw_at lw_m5 42 rfl) rfl
theorem q1180 : (Jvm.Cond.selects "LandMap$Draft" ({ cls := "LandMap$Draft", name := "isFull", desc := "()Z" } : Jvm.MethodName) ({ cls := "LandMap$Draft", name := "isFull", desc := "()Z" } : Jvm.MethodName)) ∈ lw_all := lw_g (lw_at lw_m5 43 rfl) rfl
theorem q1181 : (Jvm.Cond.code ({ cls := "LandMap$Draft", name := "isFull", desc := "()Z" } : Jvm.MethodName) prog_3_method_3_code (1 : Nat) (Option.some Jvm.ClassFile.FieldType.boolean)) ∈ lw_all := lw_g (lw_at lw_m5 44 rfl) rfl
theorem q1182 : (Jvm.Cond.methodLink "LandMap$FeatureTexts" (69 : Nat) ({ cls := "LandMap$Scan", name := "wrongHere", desc := "()Ljava/lang/IllegalStateException;" } : Jvm.MethodName)) ∈ lw_all := lw_g (lw_at lw_m5 45 rfl) rfl
theorem q1183 : (Jvm.Cond.constant "LandMap$FeatureTexts" (79 : Nat) (-500000 : Int32)) ∈ lw_all := lw_g (lw_at lw_m5 46 rfl) rfl
theorem q1184 : (Jvm.Cond.constant "LandMap$FeatureTexts" (80 : Nat) (500000 : Int32)) ∈ lw_all := lw_g (lw_at lw_m5 47 rfl) rfl
theorem q1185 : (Jvm.Cond.methodLink "LandMap$FeatureTexts" (81 : Nat) ({ cls := "LandMap$Draft", name := "add", desc := "(II)V" } : Jvm.MethodName)) ∈ lw_all := lw_g (lw_at lw_m5 48 rfl) rfl
theorem q1186 : (Jvm.Cond.instanceMethod ({ cls := "LandMap$Draft", name := "add", desc := "(II)V" } : Jvm.MethodName)) ∈ lw_all := lw_g (lw_at lw_m5 49 rfl) rfl
theorem q1187 : (Jvm.Cond.selects "LandMap$Draft" ({ cls := "LandMap$Draft", name := "add", desc := "(II)V" } : Jvm.MethodName) ({ cls := "LandMap$Draft", name := "add", desc := "(II)V" } : Jvm.MethodName)) ∈ lw_all := lw_g (lw_at lw_m5 50 rfl) rfl
theorem q1188 : (Jvm.Cond.code ({ cls := "LandMap$Draft", name := "add", desc := "(II)V" } : Jvm.MethodName) prog_3_method_4_code (3 : Nat) (Option.none : Option Jvm.ClassFile.FieldType)) ∈ lw_all := lw_g (lw_at lw_m5 51 rfl) rfl
theorem q1189 : (Jvm.Cond.methodLink "LandMap$FeatureTexts" (62 : Nat) ({ cls := "LandMap$Draft", name := "endRow", desc := "()V" } : Jvm.MethodName)) ∈ lw_all := lw_g (lw_at lw_m5 52 rfl) rfl
theorem q1190 : (Jvm.Cond.instanceMethod ({ cls := "LandMap$Draft", name := "endRow", desc := "()V" } : Jvm.MethodName)) ∈ lw_all := lw_g (lw_at lw_m5 53 rfl) rfl
theorem q1191 : (Jvm.Cond.selects "LandMap$Draft" ({ cls := "LandMap$Draft", name := "endRow", desc := "()V" } : Jvm.MethodName) ({ cls := "LandMap$Draft", name := "endRow", desc := "()V" } : Jvm.MethodName)) ∈ lw_all := lw_g (lw_at lw_m5 54 rfl) rfl
theorem q1192 : (Jvm.Cond.code ({ cls := "LandMap$Draft", name := "endRow", desc := "()V" } : Jvm.MethodName) prog_3_method_5_code (1 : Nat) (Option.none : Option Jvm.ClassFile.FieldType)) ∈ lw_all := lw_g (lw_at lw_m5 55 rfl) rfl
theorem q1193 : (Jvm.Cond.methodLink "LandMap$FeatureTexts" (65 : Nat) ({ cls := "LandMap$Draft", name := "make", desc := "(II)LLandMap$Feature;" } : Jvm.MethodName)) ∈ lw_all := lw_g (lw_at lw_m5 56 rfl) rfl
theorem q1194 : (Jvm.Cond.instanceMethod ({ cls := "LandMap$Draft", name := "make", desc := "(II)LLandMap$Feature;" } : Jvm.MethodName)) ∈ lw_all := lw_g (lw_at lw_m5 57 rfl) rfl
theorem q1195 : (Jvm.Cond.selects "LandMap$Draft" ({ cls := "LandMap$Draft", name := "make", desc := "(II)LLandMap$Feature;" } : Jvm.MethodName) ({ cls := "LandMap$Draft", name := "make", desc := "(II)LLandMap$Feature;" } : Jvm.MethodName)) ∈ lw_all := lw_g (lw_at lw_m5 58 rfl) rfl
theorem q1196 : (Jvm.Cond.code ({ cls := "LandMap$Draft", name := "make", desc := "(II)LLandMap$Feature;" } : Jvm.MethodName) prog_3_method_6_code (3 : Nat) (Option.some (Jvm.ClassFile.FieldType.object "LandMap$Feature"))) ∈ lw_all := lw_g (lw_at lw_m5 59 rfl) rfl
theorem q1197 : (Jvm.Cond.classLink "LandMap$Draft" (28 : Nat) "LandMap$Feature") ∈ lw_all := lw_g (lw_at lw_m5 60 rfl) rfl
theorem q1198 : (Jvm.Cond.instantiable "LandMap$Feature" (5 : Nat)) ∈ lw_all := lw_g (lw_at lw_m5 61 rfl) rfl
theorem q1199 : (Jvm.Cond.methodLink "LandMap$Draft" (30 : Nat) ({ cls := "LandMap$Feature", name := "copy", desc := "([II)[I" } : Jvm.MethodName)) ∈ lw_all := lw_g (lw_at lw_m5 62 rfl) rfl
theorem q1200 : (Jvm.Cond.static ({ cls := "LandMap$Feature", name := "copy", desc := "([II)[I" } : Jvm.MethodName)) ∈ lw_all := lw_g (lw_at lw_m5 63 rfl) rfl
theorem q1201 : (Jvm.Cond.code ({ cls := "LandMap$Feature", name := "copy", desc := "([II)[I" } : Jvm.MethodName) prog_7_method_10_code (4 : Nat) (Option.some (Jvm.ClassFile.FieldType.array Jvm.ClassFile.FieldType.int))) ∈ lw_all := lw_g (lw_at lw_m5 64 rfl) rfl
theorem q1202 : (Jvm.Cond.methodLink "LandMap$Draft" (34 : Nat) ({ cls := "LandMap$Feature", name := "<init>", desc := "(II[I[I[I)V" } : Jvm.MethodName)) ∈ lw_all := lw_g (lw_at lw_m5 65 rfl) rfl
theorem q1203 : (Jvm.Cond.instanceMethod ({ cls := "LandMap$Feature", name := "<init>", desc := "(II[I[I[I)V" } : Jvm.MethodName)) ∈ lw_all := lw_g (lw_at lw_m5 66 rfl) rfl
theorem q1204 : (Jvm.Cond.code ({ cls := "LandMap$Feature", name := "<init>", desc := "(II[I[I[I)V" } : Jvm.MethodName) prog_7_method_1_code (6 : Nat) (Option.none : Option Jvm.ClassFile.FieldType)) ∈ lw_all := lw_g (lw_at lw_m5 67 rfl) rfl
theorem q1205 : (Jvm.Cond.methodLink "LandMap$Feature" (3 : Nat) ({ cls := "java/lang/Object", name := "<init>", desc := "()V" } : Jvm.MethodName)) ∈ lw_all := lw_g (lw_at lw_m5 68 rfl) rfl
theorem q1206 : (Jvm.Cond.fieldLink "LandMap$Feature" (9 : Nat) "LandMap$Feature" "kind" "I") ∈ lw_all := lw_g (lw_at lw_m5 69 rfl) rfl
theorem q1207 : (Jvm.Cond.fieldLink "LandMap$Rules" (32 : Nat) "LandMap$Feature" "kind" "I") ∈ lw_all := lw_g (lw_at lw_m5 70 rfl) rfl
theorem q1208 : (Jvm.Cond.fieldLink "LandMap$Roads" (78 : Nat) "LandMap$Feature" "kind" "I") ∈ lw_all := lw_g (lw_at lw_m5 71 rfl) rfl
theorem q1209 : (Jvm.Cond.fieldLink "LandMap$Relation" (84 : Nat) "LandMap$Feature" "kind" "I") ∈ lw_all := lw_g (lw_at lw_m5 72 rfl) rfl
theorem q1210 : (Jvm.Cond.fieldLink "LandMap$Plane" (241 : Nat) "LandMap$Feature" "kind" "I") ∈ lw_all := lw_g (lw_at lw_m5 73 rfl) rfl
theorem q1211 : (Jvm.Cond.fieldLink "LandMap" (240 : Nat) "LandMap$Feature" "kind" "I") ∈ lw_all := lw_g (lw_at lw_m5 74 rfl) rfl
theorem q1212 : (Jvm.Cond.fieldLink "LandMap$Feature" (15 : Nat) "LandMap$Feature" "value" "I") ∈ lw_all := lw_g (lw_at lw_m5 75 rfl) rfl
theorem q1213 : (Jvm.Cond.fieldLink "LandMap$Roads" (83 : Nat) "LandMap$Feature" "value" "I") ∈ lw_all := lw_g (lw_at lw_m5 76 rfl) rfl
theorem q1214 : (Jvm.Cond.fieldLink "LandMap$Overlay" (98 : Nat) "LandMap$Feature" "value" "I") ∈ lw_all := lw_g (lw_at lw_m5 77 rfl) rfl
theorem q1215 : (Jvm.Cond.fieldLink "LandMap" (243 : Nat) "LandMap$Feature" "value" "I") ∈ lw_all := lw_g (lw_at lw_m5 78 rfl) rfl
theorem q1216 : (Jvm.Cond.fieldLink "LandMap$Feature" (18 : Nat) "LandMap$Feature" "starts" "[I") ∈ lw_all := lw_g (lw_at lw_m5 79 rfl) rfl
theorem q1217 : (Jvm.Cond.fieldLink "LandMap$Rules" (70 : Nat) "LandMap$Feature" "starts" "[I") ∈ lw_all := lw_g (lw_at lw_m5 80 rfl) rfl
theorem q1218 : (Jvm.Cond.fieldLink "LandMap$Plane" (107 : Nat) "LandMap$Feature" "starts" "[I") ∈ lw_all := lw_g (lw_at lw_m5 81 rfl) rfl
theorem q1219 : (Jvm.Cond.fieldLink "LandMap$Relation" (111 : Nat) "LandMap$Feature" "starts" "[I") ∈ lw_all := lw_g (lw_at lw_m5 82 rfl) rfl
theorem q1220 : (Jvm.Cond.fieldLink "LandMap" (257 : Nat) "LandMap$Feature" "starts" "[I") ∈ lw_all := lw_g (lw_at lw_m5 83 rfl) rfl
theorem q1221 : (Jvm.Cond.fieldLink "LandMap$Feature" (22 : Nat) "LandMap$Feature" "xs" "[I") ∈ lw_all := lw_g (lw_at lw_m5 84 rfl) rfl
theorem q1222 : (Jvm.Cond.fieldLink "LandMap$Rules" (73 : Nat) "LandMap$Feature" "xs" "[I") ∈ lw_all := lw_g (lw_at lw_m5 85 rfl) rfl
theorem q1223 : (Jvm.Cond.fieldLink "LandMap$Plane" (110 : Nat) "LandMap$Feature" "xs" "[I") ∈ lw_all := lw_g (lw_at lw_m5 86 rfl) rfl
theorem q1224 : (Jvm.Cond.fieldLink "LandMap$Relation" (102 : Nat) "LandMap$Feature" "xs" "[I") ∈ lw_all := lw_g (lw_at lw_m5 87 rfl) rfl
theorem q1225 : (Jvm.Cond.fieldLink "LandMap" (254 : Nat) "LandMap$Feature" "xs" "[I") ∈ lw_all := lw_g (lw_at lw_m5 88 rfl) rfl
theorem q1226 : (Jvm.Cond.fieldLink "LandMap$Feature" (25 : Nat) "LandMap$Feature" "ys" "[I") ∈ lw_all := lw_g (lw_at lw_m5 89 rfl) rfl
theorem q1227 : (Jvm.Cond.fieldLink "LandMap$Rules" (76 : Nat) "LandMap$Feature" "ys" "[I") ∈ lw_all := lw_g (lw_at lw_m5 90 rfl) rfl
theorem q1228 : (Jvm.Cond.fieldLink "LandMap$Plane" (111 : Nat) "LandMap$Feature" "ys" "[I") ∈ lw_all := lw_g (lw_at lw_m5 91 rfl) rfl
theorem q1229 : (Jvm.Cond.fieldLink "LandMap$Relation" (106 : Nat) "LandMap$Feature" "ys" "[I") ∈ lw_all := lw_g (lw_at lw_m5 92 rfl) rfl
theorem q1230 : (Jvm.Cond.fieldLink "LandMap" (260 : Nat) "LandMap$Feature" "ys" "[I") ∈ lw_all := lw_g (lw_at lw_m5 93 rfl) rfl
theorem q1231 : (Jvm.Cond.laysFinal "LandMap$Feature" "LandMap$Feature" "kind" "I") ∈ lw_all := lw_g (lw_at lw_m5 94 rfl) rfl
theorem q1232 : (Jvm.Cond.soleField "LandMap$Feature" "kind") ∈ lw_all := lw_g (lw_at lw_m5 95 rfl) rfl
theorem q1233 : (Jvm.Cond.laysFinal "LandMap$Feature" "LandMap$Feature" "value" "I") ∈ lw_all := lw_g (lw_at lw_m5 96 rfl) rfl
theorem q1234 : (Jvm.Cond.soleField "LandMap$Feature" "value") ∈ lw_all := lw_g (lw_at lw_m5 97 rfl) rfl
theorem q1235 : (Jvm.Cond.laysFinal "LandMap$Feature" "LandMap$Feature" "starts" "[I") ∈ lw_all := lw_g (lw_at lw_m5 98 rfl) rfl
theorem q1236 : (Jvm.Cond.soleField "LandMap$Feature" "starts") ∈ lw_all := lw_g (lw_at lw_m5 99 rfl) rfl
theorem q1237 : (Jvm.Cond.laysFinal "LandMap$Feature" "LandMap$Feature" "xs" "[I") ∈ lw_all := lw_g (lw_at lw_m5 100 rfl) rfl
theorem q1238 : (Jvm.Cond.soleField "LandMap$Feature" "xs") ∈ lw_all := lw_g (lw_at lw_m5 101 rfl) rfl
theorem q1239 : (Jvm.Cond.laysFinal "LandMap$Feature" "LandMap$Feature" "ys" "[I") ∈ lw_all := lw_g (lw_at lw_m5 102 rfl) rfl
theorem q1240 : (Jvm.Cond.soleField "LandMap$Feature" "ys") ∈ lw_all := lw_g (lw_at lw_m5 103 rfl) rfl
theorem q1241 : (Jvm.Cond.superclass "LandMap$Feature" "java/lang/Object") ∈ lw_all := lw_g (lw_at lw_m5 104 rfl) rfl
theorem q1242 : (Jvm.Cond.methodLink "LandMap$FeatureTexts" (73 : Nat) ({ cls := "LandMap$FeatureTexts", name := "row", desc := "()V" } : Jvm.MethodName)) ∈ lw_all := lw_g (lw_at lw_m5 105 rfl) rfl
theorem q1243 : (Jvm.Cond.privateMethod ({ cls := "LandMap$FeatureTexts", name := "row", desc := "()V" } : Jvm.MethodName)) ∈ lw_tbl := lw_at lw_m5 106 rfl
theorem q1244 : (Jvm.Cond.instanceMethod ({ cls := "LandMap$FeatureTexts", name := "row", desc := "()V" } : Jvm.MethodName)) ∈ lw_all := lw_g (lw_at lw_m5 107 rfl) rfl
theorem q1245 : (Jvm.Cond.code ({ cls := "LandMap$FeatureTexts", name := "row", desc := "()V" } : Jvm.MethodName) prog_8_method_4_code (1 : Nat) (Option.none : Option Jvm.ClassFile.FieldType)) ∈ lw_all := lw_g (lw_at lw_m5 108 rfl) rfl
theorem q1246 : (Jvm.Cond.methodLink "LandMap$FeatureTexts" (32 : Nat) ({ cls := "LandMap$Scan", name := "look", desc := "()I" } : Jvm.MethodName)) ∈ lw_all := lw_g (lw_at lw_m5 109 rfl) rfl
theorem q1247 : (Jvm.Cond.methodLink "LandMap$FeatureTexts" (26 : Nat) ({ cls := "java/util/ArrayList", name := "add", desc := "(Ljava/lang/Object;)Z" } : Jvm.MethodName)) ∈ lw_all := lw_g (lw_at lw_m5 110 rfl) rfl
theorem q1248 : (Jvm.Cond.instanceMethod ({ cls := "java/util/ArrayList", name := "add", desc := "(Ljava/lang/Object;)Z" } : Jvm.MethodName)) ∈ lw_all := lw_g (lw_at lw_m5 111 rfl) rfl
theorem q1249 : (Jvm.Cond.selects "java/util/ArrayList" ({ cls := "java/util/ArrayList", name := "add", desc := "(Ljava/lang/Object;)Z" } : Jvm.MethodName) ({ cls := "java/util/ArrayList", name := "add", desc := "(Ljava/lang/Object;)Z" } : Jvm.MethodName)) ∈ lw_all := lw_g (lw_at lw_m5 112 rfl) rfl
theorem q1250 : (Jvm.Cond.code ({ cls := "java/util/ArrayList", name := "add", desc := "(Ljava/lang/Object;)Z" } : Jvm.MethodName) prog_70_method_25_code (2 : Nat) (Option.some Jvm.ClassFile.FieldType.boolean)) ∈ lw_all := lw_g (lw_at lw_m5 113 rfl) rfl
theorem q1251 : (Jvm.Cond.methodLink "java/util/ArrayList" (131 : Nat) ({ cls := "java/util/ArrayList", name := "add", desc := "(Ljava/lang/Object;[Ljava/lang/Object;I)V" } : Jvm.MethodName)) ∈ lw_all := lw_g (lw_at lw_m5 114 rfl) rfl
theorem q1252 : (Jvm.Cond.privateMethod ({ cls := "java/util/ArrayList", name := "add", desc := "(Ljava/lang/Object;[Ljava/lang/Object;I)V" } : Jvm.MethodName)) ∈ lw_tbl := lw_at lw_m5 115 rfl
theorem q1253 : (Jvm.Cond.instanceMethod ({ cls := "java/util/ArrayList", name := "add", desc := "(Ljava/lang/Object;[Ljava/lang/Object;I)V" } : Jvm.MethodName)) ∈ lw_all := lw_g (lw_at lw_m5 116 rfl) rfl
theorem q1254 : (Jvm.Cond.code ({ cls := "java/util/ArrayList", name := "add", desc := "(Ljava/lang/Object;[Ljava/lang/Object;I)V" } : Jvm.MethodName) prog_70_method_24_code (4 : Nat) (Option.none : Option Jvm.ClassFile.FieldType)) ∈ lw_all := lw_g (lw_at lw_m5 117 rfl) rfl
theorem q1255 : (Jvm.Cond.methodLink "java/util/ArrayList" (129 : Nat) ({ cls := "java/util/ArrayList", name := "grow", desc := "()[Ljava/lang/Object;" } : Jvm.MethodName)) ∈ lw_all := lw_g (lw_at lw_m5 118 rfl) rfl
theorem q1256 : (Jvm.Cond.privateMethod ({ cls := "java/util/ArrayList", name := "grow", desc := "()[Ljava/lang/Object;" } : Jvm.MethodName)) ∈ lw_tbl := lw_at lw_m5 119 rfl
theorem q1257 : (Jvm.Cond.instanceMethod ({ cls := "java/util/ArrayList", name := "grow", desc := "()[Ljava/lang/Object;" } : Jvm.MethodName)) ∈ lw_all := lw_g (lw_at lw_m5 120 rfl) rfl
theorem q1258 : (Jvm.Cond.code ({ cls := "java/util/ArrayList", name := "grow", desc := "()[Ljava/lang/Object;" } : Jvm.MethodName) prog_70_method_7_code (1 : Nat) (Option.some (Jvm.ClassFile.FieldType.array (Jvm.ClassFile.FieldType.object "java/lang/Object")))) ∈ lw_all := lw_g (lw_at lw_m5 121 rfl) rfl
theorem q1259 : (Jvm.Cond.methodLink "java/util/ArrayList" (69 : Nat) ({ cls := "java/util/ArrayList", name := "grow", desc := "(I)[Ljava/lang/Object;" } : Jvm.MethodName)) ∈ lw_all := lw_g (lw_at lw_m5 122 rfl) rfl
theorem q1260 : (Jvm.Cond.privateMethod ({ cls := "java/util/ArrayList", name := "grow", desc := "(I)[Ljava/lang/Object;" } : Jvm.MethodName)) ∈ lw_tbl := lw_at lw_m5 123 rfl
theorem q1261 : (Jvm.Cond.instanceMethod ({ cls := "java/util/ArrayList", name := "grow", desc := "(I)[Ljava/lang/Object;" } : Jvm.MethodName)) ∈ lw_all := lw_g (lw_at lw_m5 124 rfl) rfl
theorem q1262 : (Jvm.Cond.code ({ cls := "java/util/ArrayList", name := "grow", desc := "(I)[Ljava/lang/Object;" } : Jvm.MethodName) prog_70_method_6_code (4 : Nat) (Option.some (Jvm.ClassFile.FieldType.array (Jvm.ClassFile.FieldType.object "java/lang/Object")))) ∈ lw_all := lw_g (lw_at lw_m5 125 rfl) rfl
theorem q1263 : (Jvm.Cond.fieldLink "java/util/ArrayList" (39 : Nat) "java/util/ArrayList" "DEFAULTCAPACITY_EMPTY_ELEMENTDATA" "[Ljava/lang/Object;") ∈ lw_all := lw_g (lw_at lw_m5 126 rfl) rfl
theorem q1264 : (Jvm.Cond.laysStatic "java/util/ArrayList" "DEFAULTCAPACITY_EMPTY_ELEMENTDATA" "[Ljava/lang/Object;") ∈ lw_tbl := lw_at lw_m5 127 rfl
theorem q1265 : (Jvm.Cond.methodLink "java/util/ArrayList" (73 : Nat) ({ cls := "jdk/internal/util/ArraysSupport", name := "newLength", desc := "(III)I" } : Jvm.MethodName)) ∈ lw_all := lw_g (lw_at lw_m5 128 rfl) rfl
theorem q1266 : (Jvm.Cond.static ({ cls := "jdk/internal/util/ArraysSupport", name := "newLength", desc := "(III)I" } : Jvm.MethodName)) ∈ lw_all := lw_g (lw_at lw_m5 129 rfl) rfl
theorem q1267 : (Jvm.Cond.code ({ cls := "jdk/internal/util/ArraysSupport", name := "newLength", desc := "(III)I" } : Jvm.MethodName) prog_78_method_27_code (4 : Nat) (Option.some Jvm.ClassFile.FieldType.int)) ∈ lw_all := lw_g (lw_at lw_m5 130 rfl) rfl
theorem q1268 : (Jvm.Cond.methodLink "jdk/internal/util/ArraysSupport" (194 : Nat) ({ cls := "java/lang/Math", name := "max", desc := "(II)I" } : Jvm.MethodName)) ∈ lw_all := lw_g (lw_at lw_m5 131 rfl) rfl
theorem q1269 : (Jvm.Cond.static ({ cls := "java/lang/Math", name := "max", desc := "(II)I" } : Jvm.MethodName)) ∈ lw_all := lw_g (lw_at lw_m5 132 rfl) rfl
theorem q1270 : (Jvm.Cond.code ({ cls := "java/lang/Math", name := "max", desc := "(II)I" } : Jvm.MethodName) prog_56_method_65_code (2 : Nat) (Option.some Jvm.ClassFile.FieldType.int)) ∈ lw_all := lw_g (lw_at lw_m5 133 rfl) rfl
theorem q1271 : (Jvm.Cond.constant "jdk/internal/util/ArraysSupport" (200 : Nat) (2147483639 : Int32)) ∈ lw_all := lw_g (lw_at lw_m5 134 rfl) rfl
theorem q1272 : (Jvm.Cond.methodLink "jdk/internal/util/ArraysSupport" (201 : Nat) ({ cls := "jdk/internal/util/ArraysSupport", name := "hugeLength", desc := "(II)I" } : Jvm.MethodName)) ∈ lw_all := lw_g (lw_at lw_m5 135 rfl) rfl
theorem q1273 : (Jvm.Cond.static ({ cls := "jdk/internal/util/ArraysSupport", name := "hugeLength", desc := "(II)I" } : Jvm.MethodName)) ∈ lw_all := lw_g (lw_at lw_m5 136 rfl) rfl
theorem q1274 : (Jvm.Cond.code ({ cls := "jdk/internal/util/ArraysSupport", name := "hugeLength", desc := "(II)I" } : Jvm.MethodName) prog_78_method_28_code (3 : Nat) (Option.some Jvm.ClassFile.FieldType.int)) ∈ lw_all := lw_g (lw_at lw_m5 137 rfl) rfl
theorem q1275 : (Jvm.Cond.methodLink "java/util/ArrayList" (66 : Nat) ({ cls := "java/util/Arrays", name := "copyOf", desc := "([Ljava/lang/Object;I)[Ljava/lang/Object;" } : Jvm.MethodName)) ∈ lw_all := lw_g (lw_at lw_m5 138 rfl) rfl
theorem q1276 : (Jvm.Cond.static ({ cls := "java/util/Arrays", name := "copyOf", desc := "([Ljava/lang/Object;I)[Ljava/lang/Object;" } : Jvm.MethodName)) ∈ lw_all := lw_g (lw_at lw_m5 139 rfl) rfl
theorem q1277 : (Jvm.Cond.code ({ cls := "java/util/Arrays", name := "copyOf", desc := "([Ljava/lang/Object;I)[Ljava/lang/Object;" } : Jvm.MethodName) prog_71_method_119_code (2 : Nat) (Option.some (Jvm.ClassFile.FieldType.array (Jvm.ClassFile.FieldType.object "java/lang/Object")))) ∈ lw_all := lw_g (lw_at lw_m5 140 rfl) rfl
theorem q1278 : (Jvm.Cond.methodLink "java/util/Arrays" (86 : Nat) ({ cls := "java/lang/Object", name := "getClass", desc := "()Ljava/lang/Class;" } : Jvm.MethodName)) ∈ lw_all := lw_g (lw_at lw_m5 141 rfl) rfl
theorem q1279 : (Jvm.Cond.instanceMethod ({ cls := "java/lang/Object", name := "getClass", desc := "()Ljava/lang/Class;" } : Jvm.MethodName)) ∈ lw_all := lw_g (lw_at lw_m5 142 rfl) rfl
theorem q1280 : (Jvm.Cond.sameMethod "java/lang/Object" "java/lang/Object" "getClass" "()Ljava/lang/Class;") ∈ lw_all := lw_g (lw_at lw_m5 143 rfl) rfl
theorem q1281 : (Jvm.Cond.selects "LandMap" ({ cls := "java/lang/Object", name := "getClass", desc := "()Ljava/lang/Class;" } : Jvm.MethodName) ({ cls := "java/lang/Object", name := "getClass", desc := "()Ljava/lang/Class;" } : Jvm.MethodName)) ∈ lw_all := lw_g (lw_at lw_m5 144 rfl) rfl
theorem q1282 : (Jvm.Cond.selects "LandMap$Algebra" ({ cls := "java/lang/Object", name := "getClass", desc := "()Ljava/lang/Class;" } : Jvm.MethodName) ({ cls := "java/lang/Object", name := "getClass", desc := "()Ljava/lang/Class;" } : Jvm.MethodName)) ∈ lw_all := lw_g (lw_at lw_m5 145 rfl) rfl
theorem q1283 : (Jvm.Cond.selects "LandMap$Draft" ({ cls := "java/lang/Object", name := "getClass", desc := "()Ljava/lang/Class;" } : Jvm.MethodName) ({ cls := "java/lang/Object", name := "getClass", desc := "()Ljava/lang/Class;" } : Jvm.MethodName)) ∈ lw_all := lw_g (lw_at lw_m5 146 rfl) rfl
theorem q1284 : (Jvm.Cond.selects "LandMap$Edges" ({ cls := "java/lang/Object", name := "getClass", desc := "()Ljava/lang/Class;" } : Jvm.MethodName) ({ cls := "java/lang/Object", name := "getClass", desc := "()Ljava/lang/Class;" } : Jvm.MethodName)) ∈ lw_all := lw_g (lw_at lw_m5 147 rfl) rfl
theorem q1285 : (Jvm.Cond.selects "LandMap$Faces" ({ cls := "java/lang/Object", name := "getClass", desc := "()Ljava/lang/Class;" } : Jvm.MethodName) ({ cls := "java/lang/Object", name := "getClass", desc := "()Ljava/lang/Class;" } : Jvm.MethodName)) ∈ lw_all := lw_g (lw_at lw_m5 148 rfl) rfl
theorem q1286 : (Jvm.Cond.selects "LandMap$Feature" ({ cls := "java/lang/Object", name := "getClass", desc := "()Ljava/lang/Class;" } : Jvm.MethodName) ({ cls := "java/lang/Object", name := "getClass", desc := "()Ljava/lang/Class;" } : Jvm.MethodName)) ∈ lw_all := lw_g (lw_at lw_m5 149 rfl) rfl
theorem q1287 : (Jvm.Cond.selects "LandMap$FeatureTexts" ({ cls := "java/lang/Object", name := "getClass", desc := "()Ljava/lang/Class;" } : Jvm.MethodName) ({ cls := "java/lang/Object", name := "getClass", desc := "()Ljava/lang/Class;" } : Jvm.MethodName)) ∈ lw_all := lw_g (lw_at lw_m5 150 rfl) rfl
theorem q1288 : (Jvm.Cond.selects "LandMap$Heap" ({ cls := "java/lang/Object", name := "getClass", desc := "()Ljava/lang/Class;" } : Jvm.MethodName) ({ cls := "java/lang/Object", name := "getClass", desc := "()Ljava/lang/Class;" } : Jvm.MethodName)) ∈ lw_all := lw_g (lw_at lw_m5 151 rfl) rfl
theorem q1289 : (Jvm.Cond.selects "LandMap$HotSet" ({ cls := "java/lang/Object", name := "getClass", desc := "()Ljava/lang/Class;" } : Jvm.MethodName) ({ cls := "java/lang/Object", name := "getClass", desc := "()Ljava/lang/Class;" } : Jvm.MethodName)) ∈ lw_all := lw_g (lw_at lw_m5 152 rfl) rfl
theorem q1290 : (Jvm.Cond.selects "LandMap$Laid" ({ cls := "java/lang/Object", name := "getClass", desc := "()Ljava/lang/Class;" } : Jvm.MethodName) ({ cls := "java/lang/Object", name := "getClass", desc := "()Ljava/lang/Class;" } : Jvm.MethodName)) ∈ lw_all := lw_g (lw_at lw_m5 153 rfl) rfl
theorem q1291 : (Jvm.Cond.selects "LandMap$Layer" ({ cls := "java/lang/Object", name := "getClass", desc := "()Ljava/lang/Class;" } : Jvm.MethodName) ({ cls := "java/lang/Object", name := "getClass", desc := "()Ljava/lang/Class;" } : Jvm.MethodName)) ∈ lw_all := lw_g (lw_at lw_m5 154 rfl) rfl
theorem q1292 : (Jvm.Cond.selects "LandMap$Overlay" ({ cls := "java/lang/Object", name := "getClass", desc := "()Ljava/lang/Class;" } : Jvm.MethodName) ({ cls := "java/lang/Object", name := "getClass", desc := "()Ljava/lang/Class;" } : Jvm.MethodName)) ∈ lw_all := lw_g (lw_at lw_m5 155 rfl) rfl
theorem q1293 : (Jvm.Cond.selects "LandMap$Part" ({ cls := "java/lang/Object", name := "getClass", desc := "()Ljava/lang/Class;" } : Jvm.MethodName) ({ cls := "java/lang/Object", name := "getClass", desc := "()Ljava/lang/Class;" } : Jvm.MethodName)) ∈ lw_all := lw_g (lw_at lw_m5 156 rfl) rfl
theorem q1294 : (Jvm.Cond.selects "LandMap$Plane" ({ cls := "java/lang/Object", name := "getClass", desc := "()Ljava/lang/Class;" } : Jvm.MethodName) ({ cls := "java/lang/Object", name := "getClass", desc := "()Ljava/lang/Class;" } : Jvm.MethodName)) ∈ lw_all := lw_g (lw_at lw_m5 157 rfl) rfl
theorem q1295 : (Jvm.Cond.selects "LandMap$Raster" ({ cls := "java/lang/Object", name := "getClass", desc := "()Ljava/lang/Class;" } : Jvm.MethodName) ({ cls := "java/lang/Object", name := "getClass", desc := "()Ljava/lang/Class;" } : Jvm.MethodName)) ∈ lw_all := lw_g (lw_at lw_m5 158 rfl) rfl
theorem q1296 : (Jvm.Cond.selects "LandMap$Relation" ({ cls := "java/lang/Object", name := "getClass", desc := "()Ljava/lang/Class;" } : Jvm.MethodName) ({ cls := "java/lang/Object", name := "getClass", desc := "()Ljava/lang/Class;" } : Jvm.MethodName)) ∈ lw_all := lw_g (lw_at lw_m5 159 rfl) rfl
theorem q1297 : (Jvm.Cond.selects "LandMap$Roads" ({ cls := "java/lang/Object", name := "getClass", desc := "()Ljava/lang/Class;" } : Jvm.MethodName) ({ cls := "java/lang/Object", name := "getClass", desc := "()Ljava/lang/Class;" } : Jvm.MethodName)) ∈ lw_all := lw_g (lw_at lw_m5 160 rfl) rfl
theorem q1298 : (Jvm.Cond.selects "LandMap$Rules" ({ cls := "java/lang/Object", name := "getClass", desc := "()Ljava/lang/Class;" } : Jvm.MethodName) ({ cls := "java/lang/Object", name := "getClass", desc := "()Ljava/lang/Class;" } : Jvm.MethodName)) ∈ lw_all := lw_g (lw_at lw_m5 161 rfl) rfl
theorem q1299 : (Jvm.Cond.selects "LandMap$Scan" ({ cls := "java/lang/Object", name := "getClass", desc := "()Ljava/lang/Class;" } : Jvm.MethodName) ({ cls := "java/lang/Object", name := "getClass", desc := "()Ljava/lang/Class;" } : Jvm.MethodName)) ∈ lw_all := lw_g (lw_at lw_m5 162 rfl) rfl
theorem q1300 : (Jvm.Cond.selects "LandMap$Sorter" ({ cls := "java/lang/Object", name := "getClass", desc := "()Ljava/lang/Class;" } : Jvm.MethodName) ({ cls := "java/lang/Object", name := "getClass", desc := "()Ljava/lang/Class;" } : Jvm.MethodName)) ∈ lw_all := lw_g (lw_at lw_m5 163 rfl) rfl
theorem q1301 : (Jvm.Cond.selects "LandMap$Spread" ({ cls := "java/lang/Object", name := "getClass", desc := "()Ljava/lang/Class;" } : Jvm.MethodName) ({ cls := "java/lang/Object", name := "getClass", desc := "()Ljava/lang/Class;" } : Jvm.MethodName)) ∈ lw_all := lw_g (lw_at lw_m5 164 rfl) rfl
theorem q1302 : (Jvm.Cond.selects "LandMap$State" ({ cls := "java/lang/Object", name := "getClass", desc := "()Ljava/lang/Class;" } : Jvm.MethodName) ({ cls := "java/lang/Object", name := "getClass", desc := "()Ljava/lang/Class;" } : Jvm.MethodName)) ∈ lw_all := lw_g (lw_at lw_m5 165 rfl) rfl
theorem q1303 : (Jvm.Cond.selects "LandMap$Stop" ({ cls := "java/lang/Object", name := "getClass", desc := "()Ljava/lang/Class;" } : Jvm.MethodName) ({ cls := "java/lang/Object", name := "getClass", desc := "()Ljava/lang/Class;" } : Jvm.MethodName)) ∈ lw_all := lw_g (lw_at lw_m5 166 rfl) rfl
theorem q1304 : (Jvm.Cond.selects "LandMapModel" ({ cls := "java/lang/Object", name := "getClass", desc := "()Ljava/lang/Class;" } : Jvm.MethodName) ({ cls := "java/lang/Object", name := "getClass", desc := "()Ljava/lang/Class;" } : Jvm.MethodName)) ∈ lw_all := lw_g (lw_at lw_m5 167 rfl) rfl
theorem q1305 : (Jvm.Cond.selects "LandMapModel$Algebra" ({ cls := "java/lang/Object", name := "getClass", desc := "()Ljava/lang/Class;" } : Jvm.MethodName) ({ cls := "java/lang/Object", name := "getClass", desc := "()Ljava/lang/Class;" } : Jvm.MethodName)) ∈ lw_all := lw_g (lw_at lw_m5 168 rfl) rfl
theorem q1306 : (Jvm.Cond.selects "LandMapModel$Feature" ({ cls := "java/lang/Object", name := "getClass", desc := "()Ljava/lang/Class;" } : Jvm.MethodName) ({ cls := "java/lang/Object", name := "getClass", desc := "()Ljava/lang/Class;" } : Jvm.MethodName)) ∈ lw_all := lw_g (lw_at lw_m5 169 rfl) rfl
theorem q1307 : (Jvm.Cond.selects "LandMapModel$FeatureText" ({ cls := "java/lang/Object", name := "getClass", desc := "()Ljava/lang/Class;" } : Jvm.MethodName) ({ cls := "java/lang/Object", name := "getClass", desc := "()Ljava/lang/Class;" } : Jvm.MethodName)) ∈ lw_all := lw_g (lw_at lw_m5 170 rfl) rfl
theorem q1308 : (Jvm.Cond.selects "LandMapModel$Ints" ({ cls := "java/lang/Object", name := "getClass", desc := "()Ljava/lang/Class;" } : Jvm.MethodName) ({ cls := "java/lang/Object", name := "getClass", desc := "()Ljava/lang/Class;" } : Jvm.MethodName)) ∈ lw_all := lw_g (lw_at lw_m5 171 rfl) rfl
theorem q1309 : (Jvm.Cond.selects "LandMapModel$Laid" ({ cls := "java/lang/Object", name := "getClass", desc := "()Ljava/lang/Class;" } : Jvm.MethodName) ({ cls := "java/lang/Object", name := "getClass", desc := "()Ljava/lang/Class;" } : Jvm.MethodName)) ∈ lw_all := lw_g (lw_at lw_m5 172 rfl) rfl
theorem q1310 : (Jvm.Cond.selects "LandMapModel$Net" ({ cls := "java/lang/Object", name := "getClass", desc := "()Ljava/lang/Class;" } : Jvm.MethodName) ({ cls := "java/lang/Object", name := "getClass", desc := "()Ljava/lang/Class;" } : Jvm.MethodName)) ∈ lw_all := lw_g (lw_at lw_m5 173 rfl) rfl
theorem q1311 : (Jvm.Cond.selects "LandMapModel$Overlay" ({ cls := "java/lang/Object", name := "getClass", desc := "()Ljava/lang/Class;" } : Jvm.MethodName) ({ cls := "java/lang/Object", name := "getClass", desc := "()Ljava/lang/Class;" } : Jvm.MethodName)) ∈ lw_all := lw_g (lw_at lw_m5 174 rfl) rfl
theorem q1312 : (Jvm.Cond.selects "LandMapModel$Places" ({ cls := "java/lang/Object", name := "getClass", desc := "()Ljava/lang/Class;" } : Jvm.MethodName) ({ cls := "java/lang/Object", name := "getClass", desc := "()Ljava/lang/Class;" } : Jvm.MethodName)) ∈ lw_all := lw_g (lw_at lw_m5 175 rfl) rfl
theorem q1313 : (Jvm.Cond.selects "LandMapModel$Raster" ({ cls := "java/lang/Object", name := "getClass", desc := "()Ljava/lang/Class;" } : Jvm.MethodName) ({ cls := "java/lang/Object", name := "getClass", desc := "()Ljava/lang/Class;" } : Jvm.MethodName)) ∈ lw_all := lw_g (lw_at lw_m5 176 rfl) rfl
theorem q1314 : (Jvm.Cond.selects "LandMapModel$Relation" ({ cls := "java/lang/Object", name := "getClass", desc := "()Ljava/lang/Class;" } : Jvm.MethodName) ({ cls := "java/lang/Object", name := "getClass", desc := "()Ljava/lang/Class;" } : Jvm.MethodName)) ∈ lw_all := lw_g (lw_at lw_m5 177 rfl) rfl
theorem q1315 : (Jvm.Cond.selects "LandMapModel$Roads" ({ cls := "java/lang/Object", name := "getClass", desc := "()Ljava/lang/Class;" } : Jvm.MethodName) ({ cls := "java/lang/Object", name := "getClass", desc := "()Ljava/lang/Class;" } : Jvm.MethodName)) ∈ lw_all := lw_g (lw_at lw_m5 178 rfl) rfl
theorem q1316 : (Jvm.Cond.selects "LandMapModel$Rules" ({ cls := "java/lang/Object", name := "getClass", desc := "()Ljava/lang/Class;" } : Jvm.MethodName) ({ cls := "java/lang/Object", name := "getClass", desc := "()Ljava/lang/Class;" } : Jvm.MethodName)) ∈ lw_all := lw_g (lw_at lw_m5 179 rfl) rfl
theorem q1317 : (Jvm.Cond.selects "LandMapModel$Spread" ({ cls := "java/lang/Object", name := "getClass", desc := "()Ljava/lang/Class;" } : Jvm.MethodName) ({ cls := "java/lang/Object", name := "getClass", desc := "()Ljava/lang/Class;" } : Jvm.MethodName)) ∈ lw_all := lw_g (lw_at lw_m5 180 rfl) rfl
theorem q1318 : (Jvm.Cond.selects "LandMapModel$State" ({ cls := "java/lang/Object", name := "getClass", desc := "()Ljava/lang/Class;" } : Jvm.MethodName) ({ cls := "java/lang/Object", name := "getClass", desc := "()Ljava/lang/Class;" } : Jvm.MethodName)) ∈ lw_all := lw_g (lw_at lw_m5 181 rfl) rfl
theorem q1319 : (Jvm.Cond.selects "LandMapModel$Steps" ({ cls := "java/lang/Object", name := "getClass", desc := "()Ljava/lang/Class;" } : Jvm.MethodName) ({ cls := "java/lang/Object", name := "getClass", desc := "()Ljava/lang/Class;" } : Jvm.MethodName)) ∈ lw_all := lw_g (lw_at lw_m5 182 rfl) rfl
theorem q1320 : (Jvm.Cond.selects "LandMapModel$Trouble" ({ cls := "java/lang/Object", name := "getClass", desc := "()Ljava/lang/Class;" } : Jvm.MethodName) ({ cls := "java/lang/Object", name := "getClass", desc := "()Ljava/lang/Class;" } : Jvm.MethodName)) ∈ lw_all := lw_g (lw_at lw_m5 183 rfl) rfl
theorem q1321 : (Jvm.Cond.selects "LandMapModel$Worker" ({ cls := "java/lang/Object", name := "getClass", desc := "()Ljava/lang/Class;" } : Jvm.MethodName) ({ cls := "java/lang/Object", name := "getClass", desc := "()Ljava/lang/Class;" } : Jvm.MethodName)) ∈ lw_all := lw_g (lw_at lw_m5 184 rfl) rfl
theorem q1322 : (Jvm.Cond.selects "java/lang/IllegalStateException" ({ cls := "java/lang/Object", name := "getClass", desc := "()Ljava/lang/Class;" } : Jvm.MethodName) ({ cls := "java/lang/Object", name := "getClass", desc := "()Ljava/lang/Class;" } : Jvm.MethodName)) ∈ lw_all := lw_g (lw_at lw_m5 185 rfl) rfl
theorem q1323 : (Jvm.Cond.selects "java/lang/Integer" ({ cls := "java/lang/Object", name := "getClass", desc := "()Ljava/lang/Class;" } : Jvm.MethodName) ({ cls := "java/lang/Object", name := "getClass", desc := "()Ljava/lang/Class;" } : Jvm.MethodName)) ∈ lw_all := lw_g (lw_at lw_m5 186 rfl) rfl
theorem q1324 : (Jvm.Cond.selects "java/lang/String" ({ cls := "java/lang/Object", name := "getClass", desc := "()Ljava/lang/Class;" } : Jvm.MethodName) ({ cls := "java/lang/Object", name := "getClass", desc := "()Ljava/lang/Class;" } : Jvm.MethodName)) ∈ lw_all := lw_g (lw_at lw_m5 187 rfl) rfl
theorem q1325 : (Jvm.Cond.selects "java/lang/StringBuilder" ({ cls := "java/lang/Object", name := "getClass", desc := "()Ljava/lang/Class;" } : Jvm.MethodName) ({ cls := "java/lang/Object", name := "getClass", desc := "()Ljava/lang/Class;" } : Jvm.MethodName)) ∈ lw_all := lw_g (lw_at lw_m5 188 rfl) rfl
theorem q1326 : (Jvm.Cond.selects "java/lang/System$2" ({ cls := "java/lang/Object", name := "getClass", desc := "()Ljava/lang/Class;" } : Jvm.MethodName) ({ cls := "java/lang/Object", name := "getClass", desc := "()Ljava/lang/Class;" } : Jvm.MethodName)) ∈ lw_all := lw_g (lw_at lw_m5 189 rfl) rfl
theorem q1327 : (Jvm.Cond.selects "java/util/ArrayList" ({ cls := "java/lang/Object", name := "getClass", desc := "()Ljava/lang/Class;" } : Jvm.MethodName) ({ cls := "java/lang/Object", name := "getClass", desc := "()Ljava/lang/Class;" } : Jvm.MethodName)) ∈ lw_all := lw_g (lw_at lw_m5 190 rfl) rfl
theorem q1328 : (Jvm.Cond.native ({ cls := "java/lang/Object", name := "getClass", desc := "()Ljava/lang/Class;" } : Jvm.MethodName)) ∈ lw_all := lw_g (lw_at lw_m5 191 rfl) rfl
theorem q1329 : (Jvm.Cond.methodLink "java/util/Arrays" (300 : Nat) ({ cls := "java/util/Arrays", name := "copyOf", desc := "([Ljava/lang/Object;ILjava/lang/Class;)[Ljava/lang/Object;" } : Jvm.MethodName)) ∈ lw_all := lw_g (lw_at lw_m5 192 rfl) rfl
theorem q1330 : (Jvm.Cond.static ({ cls := "java/util/Arrays", name := "copyOf", desc := "([Ljava/lang/Object;ILjava/lang/Class;)[Ljava/lang/Object;" } : Jvm.MethodName)) ∈ lw_all := lw_g (lw_at lw_m5 193 rfl) rfl
theorem q1331 : (Jvm.Cond.code ({ cls := "java/util/Arrays", name := "copyOf", desc := "([Ljava/lang/Object;ILjava/lang/Class;)[Ljava/lang/Object;" } : Jvm.MethodName) prog_71_method_120_code (4 : Nat) (Option.some (Jvm.ClassFile.FieldType.array (Jvm.ClassFile.FieldType.object "java/lang/Object")))) ∈ lw_all := lw_g (lw_at lw_m5 194 rfl) rfl
theorem q1332 : (Jvm.Cond.classLink "java/util/Arrays" (110 : Nat) "[Ljava/lang/Object;") ∈ lw_all := lw_g (lw_at lw_m5 195 rfl) rfl
theorem q1333 : (Jvm.Cond.classLink "java/util/Arrays" (2 : Nat) "java/lang/Object") ∈ lw_all := lw_g (lw_at lw_m5 196 rfl) rfl
theorem q1334 : (Jvm.Cond.methodLink "java/util/Arrays" (304 : Nat) ({ cls := "java/lang/Math", name := "min", desc := "(II)I" } : Jvm.MethodName)) ∈ lw_all := lw_g (lw_at lw_m5 197 rfl) rfl
theorem q1335 : (Jvm.Cond.static ({ cls := "java/lang/Math", name := "min", desc := "(II)I" } : Jvm.MethodName)) ∈ lw_all := lw_g (lw_at lw_m5 198 rfl) rfl
theorem q1336 : (Jvm.Cond.code ({ cls := "java/lang/Math", name := "min", desc := "(II)I" } : Jvm.MethodName) prog_56_method_69_code (2 : Nat) (Option.some Jvm.ClassFile.FieldType.int)) ∈ lw_all := lw_g (lw_at lw_m5 199 rfl) rfl
theorem q1337 : (Jvm.Cond.methodLink "java/util/Arrays" (150 : Nat) ({ cls := "java/lang/System", name := "arraycopy", desc := "(Ljava/lang/Object;ILjava/lang/Object;II)V" } : Jvm.MethodName)) ∈ lw_all := lw_g (lw_at lw_m5 200 rfl) rfl
theorem q1338 : (Jvm.Cond.static ({ cls := "java/lang/System", name := "arraycopy", desc := "(Ljava/lang/Object;ILjava/lang/Object;II)V" } : Jvm.MethodName)) ∈ lw_all := lw_g (lw_at lw_m5 201 rfl) rfl
theorem q1339 : (Jvm.Cond.native ({ cls := "java/lang/System", name := "arraycopy", desc := "(Ljava/lang/Object;ILjava/lang/Object;II)V" } : Jvm.MethodName)) ∈ lw_all := lw_g (lw_at lw_m5 202 rfl) rfl
theorem q1340 : (Jvm.Cond.methodLink "java/util/ArrayList" (79 : Nat) ({ cls := "java/lang/Math", name := "max", desc := "(II)I" } : Jvm.MethodName)) ∈ lw_all := lw_g (lw_at lw_m5 203 rfl) rfl
theorem q1341 : (Jvm.Cond.methodLink "LandMap" (196 : Nat) ({ cls := "java/util/ArrayList", name := "size", desc := "()I" } : Jvm.MethodName)) ∈ lw_all := lw_g (lw_at lw_m5 204 rfl) rfl
theorem q1342 : (Jvm.Cond.instanceMethod ({ cls := "java/util/ArrayList", name := "size", desc := "()I" } : Jvm.MethodName)) ∈ lw_all := lw_g (lw_at lw_m5 205 rfl) rfl
theorem q1343 : (Jvm.Cond.selects "java/util/ArrayList" ({ cls := "java/util/ArrayList", name := "size", desc := "()I" } : Jvm.MethodName) ({ cls := "java/util/ArrayList", name := "size", desc := "()I" } : Jvm.MethodName)) ∈ lw_all := lw_g (lw_at lw_m5 206 rfl) rfl
theorem q1344 : (Jvm.Cond.code ({ cls := "java/util/ArrayList", name := "size", desc := "()I" } : Jvm.MethodName) prog_70_method_8_code (1 : Nat) (Option.some Jvm.ClassFile.FieldType.int)) ∈ lw_all := lw_g (lw_at lw_m5 207 rfl) rfl
theorem q1345 : (Jvm.Cond.methodLink "LandMap" (199 : Nat) ({ cls := "java/util/ArrayList", name := "get", desc := "(I)Ljava/lang/Object;" } : Jvm.MethodName)) ∈ lw_all := lw_g (lw_at lw_m5 208 rfl) rfl
theorem q1346 : (Jvm.Cond.instanceMethod ({ cls := "java/util/ArrayList", name := "get", desc := "(I)Ljava/lang/Object;" } : Jvm.MethodName)) ∈ lw_all := lw_g (lw_at lw_m5 209 rfl) rfl
theorem q1347 : (Jvm.Cond.selects "java/util/ArrayList" ({ cls := "java/util/ArrayList", name := "get", desc := "(I)Ljava/lang/Object;" } : Jvm.MethodName) ({ cls := "java/util/ArrayList", name := "get", desc := "(I)Ljava/lang/Object;" } : Jvm.MethodName)) ∈ lw_all := lw_g (lw_at lw_m5 210 rfl) rfl
theorem q1348 : (Jvm.Cond.code ({ cls := "java/util/ArrayList", name := "get", desc := "(I)Ljava/lang/Object;" } : Jvm.MethodName) prog_70_method_20_code (2 : Nat) (Option.some (Jvm.ClassFile.FieldType.object "java/lang/Object"))) ∈ lw_all := lw_g (lw_at lw_m5 211 rfl) rfl
theorem q1349 : (Jvm.Cond.methodLink "java/util/ArrayList" (118 : Nat) ({ cls := "java/util/Objects", name := "checkIndex", desc := "(II)I" } : Jvm.MethodName)) ∈ lw_all := lw_g (lw_at lw_m5 212 rfl) rfl
theorem q1350 : (Jvm.Cond.static ({ cls := "java/util/Objects", name := "checkIndex", desc := "(II)I" } : Jvm.MethodName)) ∈ lw_all := lw_g (lw_at lw_m5 213 rfl) rfl
theorem q1351 : (Jvm.Cond.code ({ cls := "java/util/Objects", name := "checkIndex", desc := "(II)I" } : Jvm.MethodName) prog_74_method_17_code (2 : Nat) (Option.some Jvm.ClassFile.FieldType.int)) ∈ lw_all := lw_g (lw_at lw_m5 214 rfl) rfl
theorem q1352 : (Jvm.Cond.methodLink "java/util/Objects" (105 : Nat) ({ cls := "jdk/internal/util/Preconditions", name := "checkIndex", desc := "(IILjava/util/function/BiFunction;)I" } : Jvm.MethodName)) ∈ lw_all := lw_g (lw_at lw_m5 215 rfl) rfl
theorem q1353 : (Jvm.Cond.static ({ cls := "jdk/internal/util/Preconditions", name := "checkIndex", desc := "(IILjava/util/function/BiFunction;)I" } : Jvm.MethodName)) ∈ lw_all := lw_g (lw_at lw_m5 216 rfl) rfl
theorem q1354 : (Jvm.Cond.code ({ cls := "jdk/internal/util/Preconditions", name := "checkIndex", desc := "(IILjava/util/function/BiFunction;)I" } : Jvm.MethodName) prog_79_method_11_code (3 : Nat) (Option.some Jvm.ClassFile.FieldType.int)) ∈ lw_all := lw_g (lw_at lw_m5 217 rfl) rfl
theorem q1355 : (Jvm.Cond.methodLink "java/util/ArrayList" (123 : Nat) ({ cls := "java/util/ArrayList", name := "elementData", desc := "(I)Ljava/lang/Object;" } : Jvm.MethodName)) ∈ lw_all := lw_g (lw_at lw_m5 218 rfl) rfl
theorem q1356 : (Jvm.Cond.instanceMethod ({ cls := "java/util/ArrayList", name := "elementData", desc := "(I)Ljava/lang/Object;" } : Jvm.MethodName)) ∈ lw_all := lw_g (lw_at lw_m5 219 rfl) rfl
theorem q1357 : (Jvm.Cond.selects "java/util/ArrayList" ({ cls := "java/util/ArrayList", name := "elementData", desc := "(I)Ljava/lang/Object;" } : Jvm.MethodName) ({ cls := "java/util/ArrayList", name := "elementData", desc := "(I)Ljava/lang/Object;" } : Jvm.MethodName)) ∈ lw_all := lw_g (lw_at lw_m5 220 rfl) rfl
theorem q1358 : (Jvm.Cond.code ({ cls := "java/util/ArrayList", name := "elementData", desc := "(I)Ljava/lang/Object;" } : Jvm.MethodName) prog_70_method_18_code (2 : Nat) (Option.some (Jvm.ClassFile.FieldType.object "java/lang/Object"))) ∈ lw_all := lw_g (lw_at lw_m5 221 rfl) rfl
theorem q1359 : (Jvm.Cond.classLink "LandMap" (202 : Nat) "LandMap$Feature") ∈ lw_all := lw_g (lw_at lw_m5 222 rfl) rfl
theorem q1360 : (Jvm.Cond.methodLink "LandMap" (204 : Nat) ({ cls := "LandMap", name := "isRight", desc := "(LLandMap$Feature;I)Z" } : Jvm.MethodName)) ∈ lw_all := lw_g (lw_at lw_m5 223 rfl) rfl
theorem q1361 : (Jvm.Cond.privateMethod ({ cls := "LandMap", name := "isRight", desc := "(LLandMap$Feature;I)Z" } : Jvm.MethodName)) ∈ lw_tbl := lw_at lw_m5 224 rfl
theorem q1362 : (Jvm.Cond.instanceMethod ({ cls := "LandMap", name := "isRight", desc := "(LLandMap$Feature;I)Z" } : Jvm.MethodName)) ∈ lw_all := lw_g (lw_at lw_m5 225 rfl) rfl
theorem q1363 : (Jvm.Cond.code ({ cls := "LandMap", name := "isRight", desc := "(LLandMap$Feature;I)Z" } : Jvm.MethodName) prog_1_method_10_code (3 : Nat) (Option.some Jvm.ClassFile.FieldType.boolean)) ∈ lw_all := lw_g (lw_at lw_m5 226 rfl) rfl
theorem q1364 : (Jvm.Cond.methodLink "LandMap" (229 : Nat) ({ cls := "LandMap$Rules", name := "broken", desc := "(LLandMap$Feature;LLandMap$Laid;)I" } : Jvm.MethodName)) ∈ lw_all := lw_g (lw_at lw_m5 227 rfl) rfl
theorem q1365 : (Jvm.Cond.instanceMethod ({ cls := "LandMap$Rules", name := "broken", desc := "(LLandMap$Feature;LLandMap$Laid;)I" } : Jvm.MethodName)) ∈ lw_all := lw_g (lw_at lw_m5 228 rfl) rfl
theorem q1366 : (Jvm.Cond.selects "LandMap$Rules" ({ cls := "LandMap$Rules", name := "broken", desc := "(LLandMap$Feature;LLandMap$Laid;)I" } : Jvm.MethodName) ({ cls := "LandMap$Rules", name := "broken", desc := "(LLandMap$Feature;LLandMap$Laid;)I" } : Jvm.MethodName)) ∈ lw_all := lw_g (lw_at lw_m5 229 rfl) rfl
theorem q1367 : (Jvm.Cond.code ({ cls := "LandMap$Rules", name := "broken", desc := "(LLandMap$Feature;LLandMap$Laid;)I" } : Jvm.MethodName) prog_19_method_2_code (5 : Nat) (Option.some Jvm.ClassFile.FieldType.int)) ∈ lw_all := lw_g (lw_at lw_m5 230 rfl) rfl
theorem q1368 : (Jvm.Cond.methodLink "LandMap$Rules" (38 : Nat) ({ cls := "LandMap$Feature", name := "rows", desc := "()I" } : Jvm.MethodName)) ∈ lw_all := lw_g (lw_at lw_m5 231 rfl) rfl
theorem q1369 : (Jvm.Cond.instanceMethod ({ cls := "LandMap$Feature", name := "rows", desc := "()I" } : Jvm.MethodName)) ∈ lw_all := lw_g (lw_at lw_m5 232 rfl) rfl
theorem q1370 : (Jvm.Cond.selects "LandMap$Feature" ({ cls := "LandMap$Feature", name := "rows", desc := "()I" } : Jvm.MethodName) ({ cls := "LandMap$Feature", name := "rows", desc := "()I" } : Jvm.MethodName)) ∈ lw_all := lw_g (lw_at lw_m5 233 rfl) rfl
theorem q1371 : (Jvm.Cond.code ({ cls := "LandMap$Feature", name := "rows", desc := "()I" } : Jvm.MethodName) prog_7_method_2_code (1 : Nat) (Option.some Jvm.ClassFile.FieldType.int)) ∈ lw_all := lw_g (lw_at lw_m5 234 rfl) rfl
theorem q1372 : (Jvm.Cond.methodLink "LandMap$Rules" (42 : Nat) ({ cls := "LandMap$Rules", name := "isClosed", desc := "(LLandMap$Feature;I)Z" } : Jvm.MethodName)) ∈ lw_all := lw_g (lw_at lw_m5 235 rfl) rfl
theorem q1373 : (Jvm.Cond.static ({ cls := "LandMap$Rules", name := "isClosed", desc := "(LLandMap$Feature;I)Z" } : Jvm.MethodName)) ∈ lw_all := lw_g (lw_at lw_m5 236 rfl) rfl
theorem q1374 : (Jvm.Cond.code ({ cls := "LandMap$Rules", name := "isClosed", desc := "(LLandMap$Feature;I)Z" } : Jvm.MethodName) prog_19_method_3_code (4 : Nat) (Option.some Jvm.ClassFile.FieldType.boolean)) ∈ lw_all := lw_g (lw_at lw_m5 237 rfl) rfl
theorem q1375 : (Jvm.Cond.methodLink "LandMap$Rules" (46 : Nat) ({ cls := "LandMap$Rules", name := "hasTwins", desc := "(LLandMap$Feature;I)Z" } : Jvm.MethodName)) ∈ lw_all := lw_g (lw_at lw_m5 238 rfl) rfl
theorem q1376 : (Jvm.Cond.static ({ cls := "LandMap$Rules", name := "hasTwins", desc := "(LLandMap$Feature;I)Z" } : Jvm.MethodName)) ∈ lw_all := lw_g (lw_at lw_m5 239 rfl) rfl
theorem q1377 : (Jvm.Cond.code ({ cls := "LandMap$Rules", name := "hasTwins", desc := "(LLandMap$Feature;I)Z" } : Jvm.MethodName) prog_19_method_4_code (3 : Nat) (Option.some Jvm.ClassFile.FieldType.boolean)) ∈ lw_all := lw_g (lw_at lw_m6 0 rfl) rfl
theorem q1378 : (Jvm.Cond.methodLink "LandMap$Rules" (49 : Nat) ({ cls := "LandMap$Rules", name := "isSimple", desc := "(LLandMap$Feature;I)Z" } : Jvm.MethodName)) ∈ lw_all := lw_g (lw_at lw_m6 1 rfl) rfl
theorem q1379 : (Jvm.Cond.privateMethod ({ cls := "LandMap$Rules", name := "isSimple", desc := "(LLandMap$Feature;I)Z" } : Jvm.MethodName)) ∈ lw_tbl := lw_at lw_m6 2 rfl
theorem q1380 : (Jvm.Cond.instanceMethod ({ cls := "LandMap$Rules", name := "isSimple", desc := "(LLandMap$Feature;I)Z" } : Jvm.MethodName)) ∈ lw_all := lw_g (lw_at lw_m6 3 rfl) rfl
theorem q1381 : (Jvm.Cond.code ({ cls := "LandMap$Rules", name := "isSimple", desc := "(LLandMap$Feature;I)Z" } : Jvm.MethodName) prog_19_method_6_code (10 : Nat) (Option.some Jvm.ClassFile.FieldType.boolean)) ∈ lw_all := lw_g (lw_at lw_m6 4 rfl) rfl
theorem q1382 : (Jvm.Cond.methodLink "LandMap$Rules" (86 : Nat) ({ cls := "LandMap$Rules", name := "take", desc := "(LLandMap$Feature;I)V" } : Jvm.MethodName)) ∈ lw_all := lw_g (lw_at lw_m6 5 rfl) rfl
theorem q1383 : (Jvm.Cond.privateMethod ({ cls := "LandMap$Rules", name := "take", desc := "(LLandMap$Feature;I)V" } : Jvm.MethodName)) ∈ lw_tbl := lw_at lw_m6 6 rfl
theorem q1384 : (Jvm.Cond.instanceMethod ({ cls := "LandMap$Rules", name := "take", desc := "(LLandMap$Feature;I)V" } : Jvm.MethodName)) ∈ lw_all := lw_g (lw_at lw_m6 7 rfl) rfl
theorem q1385 : (Jvm.Cond.code ({ cls := "LandMap$Rules", name := "take", desc := "(LLandMap$Feature;I)V" } : Jvm.MethodName) prog_19_method_5_code (4 : Nat) (Option.none : Option Jvm.ClassFile.FieldType)) ∈ lw_all := lw_g (lw_at lw_m6 8 rfl) rfl
theorem q1386 : (Jvm.Cond.methodLink "LandMap$Rules" (79 : Nat) ({ cls := "LandMap$Edges", name := "add", desc := "(IIIII)V" } : Jvm.MethodName)) ∈ lw_all := lw_g (lw_at lw_m6 9 rfl) rfl
theorem q1387 : (Jvm.Cond.instanceMethod ({ cls := "LandMap$Edges", name := "add", desc := "(IIIII)V" } : Jvm.MethodName)) ∈ lw_all := lw_g (lw_at lw_m6 10 rfl) rfl
theorem q1388 : (Jvm.Cond.selects "LandMap$Edges" ({ cls := "LandMap$Edges", name := "add", desc := "(IIIII)V" } : Jvm.MethodName) ({ cls := "LandMap$Edges", name := "add", desc := "(IIIII)V" } : Jvm.MethodName)) ∈ lw_all := lw_g (lw_at lw_m6 11 rfl) rfl
theorem q1389 : (Jvm.Cond.code ({ cls := "LandMap$Edges", name := "add", desc := "(IIIII)V" } : Jvm.MethodName) prog_4_method_3_code (6 : Nat) (Option.none : Option Jvm.ClassFile.FieldType)) ∈ lw_all := lw_g (lw_at lw_m6 12 rfl) rfl
theorem q1390 : (Jvm.Cond.methodLink "LandMap$Rules" (90 : Nat) ({ cls := "LandMap$Edges", name := "sort", desc := "()V" } : Jvm.MethodName)) ∈ lw_all := lw_g (lw_at lw_m6 13 rfl) rfl
theorem q1391 : (Jvm.Cond.instanceMethod ({ cls := "LandMap$Edges", name := "sort", desc := "()V" } : Jvm.MethodName)) ∈ lw_all := lw_g (lw_at lw_m6 14 rfl) rfl
theorem q1392 : (Jvm.Cond.selects "LandMap$Edges" ({ cls := "LandMap$Edges", name := "sort", desc := "()V" } : Jvm.MethodName) ({ cls := "LandMap$Edges", name := "sort", desc := "()V" } : Jvm.MethodName)) ∈ lw_all := lw_g (lw_at lw_m6 15 rfl) rfl
theorem q1393 : (Jvm.Cond.code ({ cls := "LandMap$Edges", name := "sort", desc := "()V" } : Jvm.MethodName) prog_4_method_6_code (2 : Nat) (Option.none : Option Jvm.ClassFile.FieldType)) ∈ lw_all := lw_g (lw_at lw_m6 16 rfl) rfl
theorem q1394 : (Jvm.Cond.methodLink "LandMap$Edges" (51 : Nat) ({ cls := "LandMap$Edges", name := "leastX", desc := "(I)I" } : Jvm.MethodName)) ∈ lw_all := lw_g (lw_at lw_m6 17 rfl) rfl
theorem q1395 : (Jvm.Cond.instanceMethod ({ cls := "LandMap$Edges", name := "leastX", desc := "(I)I" } : Jvm.MethodName)) ∈ lw_all := lw_g (lw_at lw_m6 18 rfl) rfl
theorem q1396 : (Jvm.Cond.selects "LandMap$Edges" ({ cls := "LandMap$Edges", name := "leastX", desc := "(I)I" } : Jvm.MethodName) ({ cls := "LandMap$Edges", name := "leastX", desc := "(I)I" } : Jvm.MethodName)) ∈ lw_all := lw_g (lw_at lw_m6 19 rfl) rfl
theorem q1397 : (Jvm.Cond.code ({ cls := "LandMap$Edges", name := "leastX", desc := "(I)I" } : Jvm.MethodName) prog_4_method_4_code (2 : Nat) (Option.some Jvm.ClassFile.FieldType.int)) ∈ lw_all := lw_g (lw_at lw_m6 20 rfl) rfl
theorem q1398 : (Jvm.Cond.methodLink "LandMap$Edges" (42 : Nat) ({ cls := "java/lang/Math", name := "min", desc := "(II)I" } : Jvm.MethodName)) ∈ lw_all := lw_g (lw_at lw_m6 21 rfl) rfl
theorem q1399 : (Jvm.Cond.constant "LandMap$Edges" (55 : Nat) (500000 : Int32)) ∈ lw_all := lw_g (lw_at lw_m6 22 rfl) rfl
theorem q1400 : (Jvm.Cond.methodLink "LandMap$Edges" (56 : Nat) ({ cls := "LandMap$Sorter", name := "sort", desc := "([JI)V" } : Jvm.MethodName)) ∈ lw_all := lw_g (lw_at lw_m6 23 rfl) rfl
theorem q1401 : (Jvm.Cond.instanceMethod ({ cls := "LandMap$Sorter", name := "sort", desc := "([JI)V" } : Jvm.MethodName)) ∈ lw_all := lw_g (lw_at lw_m6 24 rfl) rfl
theorem q1402 : (Jvm.Cond.selects "LandMap$Sorter" ({ cls := "LandMap$Sorter", name := "sort", desc := "([JI)V" } : Jvm.MethodName) ({ cls := "LandMap$Sorter", name := "sort", desc := "([JI)V" } : Jvm.MethodName)) ∈ lw_all := lw_g (lw_at lw_m6 25 rfl) rfl
theorem q1403 : (Jvm.Cond.code ({ cls := "LandMap$Sorter", name := "sort", desc := "([JI)V" } : Jvm.MethodName) prog_21_method_2_code (5 : Nat) (Option.none : Option Jvm.ClassFile.FieldType)) ∈ lw_all := lw_g (lw_at lw_m6 26 rfl) rfl
theorem q1404 : (Jvm.Cond.methodLink "LandMap$Sorter" (13 : Nat) ({ cls := "java/lang/Math", name := "min", desc := "(II)I" } : Jvm.MethodName)) ∈ lw_all := lw_g (lw_at lw_m6 27 rfl) rfl
theorem q1405 : (Jvm.Cond.methodLink "LandMap$Sorter" (19 : Nat) ({ cls := "LandMap$Sorter", name := "merge", desc := "([JIII)V" } : Jvm.MethodName)) ∈ lw_all := lw_g (lw_at lw_m6 28 rfl) rfl
theorem q1406 : (Jvm.Cond.privateMethod ({ cls := "LandMap$Sorter", name := "merge", desc := "([JIII)V" } : Jvm.MethodName)) ∈ lw_tbl := lw_at lw_m6 29 rfl
theorem q1407 : (Jvm.Cond.instanceMethod ({ cls := "LandMap$Sorter", name := "merge", desc := "([JIII)V" } : Jvm.MethodName)) ∈ lw_all := lw_g (lw_at lw_m6 30 rfl) rfl
theorem q1408 : (Jvm.Cond.code ({ cls := "LandMap$Sorter", name := "merge", desc := "([JIII)V" } : Jvm.MethodName) prog_21_method_3_code (8 : Nat) (Option.none : Option Jvm.ClassFile.FieldType)) ∈ lw_all := lw_g (lw_at lw_m6 31 rfl) rfl
theorem q1409 : (Jvm.Cond.constantLong "LandMap$Edges" (62 : Nat) (1048575 : Int64)) ∈ lw_all := lw_g (lw_at lw_m6 32 rfl) rfl
theorem q1410 : (Jvm.Cond.methodLink "LandMap$Rules" (96 : Nat) ({ cls := "LandMap$Edges", name := "leastX", desc := "(I)I" } : Jvm.MethodName)) ∈ lw_all := lw_g (lw_at lw_m6 33 rfl) rfl
theorem q1411 : (Jvm.Cond.methodLink "LandMap$Rules" (100 : Nat) ({ cls := "LandMap$Edges", name := "mostX", desc := "(I)I" } : Jvm.MethodName)) ∈ lw_all := lw_g (lw_at lw_m6 34 rfl) rfl
theorem q1412 : (Jvm.Cond.instanceMethod ({ cls := "LandMap$Edges", name := "mostX", desc := "(I)I" } : Jvm.MethodName)) ∈ lw_all := lw_g (lw_at lw_m6 35 rfl) rfl
theorem q1413 : (Jvm.Cond.selects "LandMap$Edges" ({ cls := "LandMap$Edges", name := "mostX", desc := "(I)I" } : Jvm.MethodName) ({ cls := "LandMap$Edges", name := "mostX", desc := "(I)I" } : Jvm.MethodName)) ∈ lw_all := lw_g (lw_at lw_m6 36 rfl) rfl
theorem q1414 : (Jvm.Cond.code ({ cls := "LandMap$Edges", name := "mostX", desc := "(I)I" } : Jvm.MethodName) prog_4_method_5_code (2 : Nat) (Option.some Jvm.ClassFile.FieldType.int)) ∈ lw_all := lw_g (lw_at lw_m6 37 rfl) rfl
theorem q1415 : (Jvm.Cond.methodLink "LandMap$Edges" (48 : Nat) ({ cls := "java/lang/Math", name := "max", desc := "(II)I" } : Jvm.MethodName)) ∈ lw_all := lw_g (lw_at lw_m6 38 rfl) rfl
theorem q1416 : (Jvm.Cond.methodLink "LandMap$Rules" (103 : Nat) ({ cls := "java/lang/Math", name := "abs", desc := "(I)I" } : Jvm.MethodName)) ∈ lw_all := lw_g (lw_at lw_m6 39 rfl) rfl
theorem q1417 : (Jvm.Cond.static ({ cls := "java/lang/Math", name := "abs", desc := "(I)I" } : Jvm.MethodName)) ∈ lw_all := lw_g (lw_at lw_m6 40 rfl) rfl
theorem q1418 : (Jvm.Cond.code ({ cls := "java/lang/Math", name := "abs", desc := "(I)I" } : Jvm.MethodName) prog_56_method_59_code (1 : Nat) (Option.some Jvm.ClassFile.FieldType.int)) ∈ lw_all := lw_g (lw_at lw_m6 41 rfl) rfl
theorem q1419 : (Jvm.Cond.methodLink "LandMap$Rules" (108 : Nat) ({ cls := "LandMap$Edges", name := "share", desc := "(II)Z" } : Jvm.MethodName)) ∈ lw_all := lw_g (lw_at lw_m6 42 rfl) rfl
theorem q1420 : (Jvm.Cond.instanceMethod ({ cls := "LandMap$Edges", name := "share", desc := "(II)Z" } : Jvm.MethodName)) ∈ lw_all := lw_g (lw_at lw_m6 43 rfl) rfl
theorem q1421 : (Jvm.Cond.selects "LandMap$Edges" ({ cls := "LandMap$Edges", name := "share", desc := "(II)Z" } : Jvm.MethodName) ({ cls := "LandMap$Edges", name := "share", desc := "(II)Z" } : Jvm.MethodName)) ∈ lw_all := lw_g (lw_at lw_m6 44 rfl) rfl
theorem q1422 : (Jvm.Cond.code ({ cls := "LandMap$Edges", name := "share", desc := "(II)Z" } : Jvm.MethodName) prog_4_method_13_code (13 : Nat) (Option.some Jvm.ClassFile.FieldType.boolean)) ∈ lw_all := lw_g (lw_at lw_m6 45 rfl) rfl
theorem q1423 : (Jvm.Cond.methodLink "LandMap$Edges" (88 : Nat) ({ cls := "LandMap$Edges", name := "areInOneLine", desc := "(II)Z" } : Jvm.MethodName)) ∈ lw_all := lw_g (lw_at lw_m6 46 rfl) rfl
theorem q1424 : (Jvm.Cond.instanceMethod ({ cls := "LandMap$Edges", name := "areInOneLine", desc := "(II)Z" } : Jvm.MethodName)) ∈ lw_all := lw_g (lw_at lw_m6 47 rfl) rfl
theorem q1425 : (Jvm.Cond.selects "LandMap$Edges" ({ cls := "LandMap$Edges", name := "areInOneLine", desc := "(II)Z" } : Jvm.MethodName) ({ cls := "LandMap$Edges", name := "areInOneLine", desc := "(II)Z" } : Jvm.MethodName)) ∈ lw_all := lw_g (lw_at lw_m6 48 rfl) rfl
theorem q1426 : (Jvm.Cond.code ({ cls := "LandMap$Edges", name := "areInOneLine", desc := "(II)Z" } : Jvm.MethodName) prog_4_method_10_code (3 : Nat) (Option.some Jvm.ClassFile.FieldType.boolean)) ∈ lw_all := lw_g (lw_at lw_m6 49 rfl) rfl
theorem q1427 : (Jvm.Cond.methodLink "LandMap$Edges" (74 : Nat) ({ cls := "LandMap$Edges", name := "side", desc := "(III)J" } : Jvm.MethodName)) ∈ lw_all := lw_g (lw_at lw_m6 50 rfl) rfl
theorem q1428 : (Jvm.Cond.instanceMethod ({ cls := "LandMap$Edges", name := "side", desc := "(III)J" } : Jvm.MethodName)) ∈ lw_all := lw_g (lw_at lw_m6 51 rfl) rfl
theorem q1429 : (Jvm.Cond.selects "LandMap$Edges" ({ cls := "LandMap$Edges", name := "side", desc := "(III)J" } : Jvm.MethodName) ({ cls := "LandMap$Edges", name := "side", desc := "(III)J" } : Jvm.MethodName)) ∈ lw_all := lw_g (lw_at lw_m6 52 rfl) rfl
theorem q1430 : (Jvm.Cond.code ({ cls := "LandMap$Edges", name := "side", desc := "(III)J" } : Jvm.MethodName) prog_4_method_8_code (4 : Nat) (Option.some Jvm.ClassFile.FieldType.long)) ∈ lw_all := lw_g (lw_at lw_m6 53 rfl) rfl
theorem q1431 : (Jvm.Cond.methodLink "LandMap$Edges" (64 : Nat) ({ cls := "LandMap$Exact", name := "side", desc := "(IIIIII)J" } : Jvm.MethodName)) ∈ lw_all := lw_g (lw_at lw_m6 54 rfl) rfl
theorem q1432 : (Jvm.Cond.static ({ cls := "LandMap$Exact", name := "side", desc := "(IIIIII)J" } : Jvm.MethodName)) ∈ lw_all := lw_g (lw_at lw_m6 55 rfl) rfl
theorem q1433 : (Jvm.Cond.code ({ cls := "LandMap$Exact", name := "side", desc := "(IIIIII)J" } : Jvm.MethodName) prog_5_method_2_code (6 : Nat) (Option.some Jvm.ClassFile.FieldType.long)) ∈ lw_all := lw_g (lw_at lw_m6 56 rfl) rfl
theorem q1434 : (Jvm.Cond.methodLink "LandMap$Edges" (91 : Nat) ({ cls := "java/lang/Math", name := "min", desc := "(JJ)J" } : Jvm.MethodName)) ∈ lw_all := lw_g (lw_at lw_m6 57 rfl) rfl
theorem q1435 : (Jvm.Cond.static ({ cls := "java/lang/Math", name := "min", desc := "(JJ)J" } : Jvm.MethodName)) ∈ lw_all := lw_g (lw_at lw_m6 58 rfl) rfl
theorem q1436 : (Jvm.Cond.code ({ cls := "java/lang/Math", name := "min", desc := "(JJ)J" } : Jvm.MethodName) prog_56_method_70_code (4 : Nat) (Option.some Jvm.ClassFile.FieldType.long)) ∈ lw_all := lw_g (lw_at lw_m6 59 rfl) rfl
theorem q1437 : (Jvm.Cond.methodLink "LandMap$Edges" (94 : Nat) ({ cls := "java/lang/Math", name := "max", desc := "(JJ)J" } : Jvm.MethodName)) ∈ lw_all := lw_g (lw_at lw_m6 60 rfl) rfl
theorem q1438 : (Jvm.Cond.static ({ cls := "java/lang/Math", name := "max", desc := "(JJ)J" } : Jvm.MethodName)) ∈ lw_all := lw_g (lw_at lw_m6 61 rfl) rfl
theorem q1439 : (Jvm.Cond.code ({ cls := "java/lang/Math", name := "max", desc := "(JJ)J" } : Jvm.MethodName) prog_56_method_66_code (4 : Nat) (Option.some Jvm.ClassFile.FieldType.long)) ∈ lw_all := lw_g (lw_at lw_m6 62 rfl) rfl
theorem q1440 : (Jvm.Cond.methodLink "LandMap$Rules" (112 : Nat) ({ cls := "LandMap$Edges", name := "meet", desc := "(II)Z" } : Jvm.MethodName)) ∈ lw_all := lw_g (lw_at lw_m6 63 rfl) rfl
theorem q1441 : (Jvm.Cond.instanceMethod ({ cls := "LandMap$Edges", name := "meet", desc := "(II)Z" } : Jvm.MethodName)) ∈ lw_all := lw_g (lw_at lw_m6 64 rfl) rfl
theorem q1442 : (Jvm.Cond.selects "LandMap$Edges" ({ cls := "LandMap$Edges", name := "meet", desc := "(II)Z" } : Jvm.MethodName) ({ cls := "LandMap$Edges", name := "meet", desc := "(II)Z" } : Jvm.MethodName)) ∈ lw_all := lw_g (lw_at lw_m6 65 rfl) rfl
theorem q1443 : (Jvm.Cond.code ({ cls := "LandMap$Edges", name := "meet", desc := "(II)Z" } : Jvm.MethodName) prog_4_method_11_code (7 : Nat) (Option.some Jvm.ClassFile.FieldType.boolean)) ∈ lw_all := lw_g (lw_at lw_m6 66 rfl) rfl
theorem q1444 : (Jvm.Cond.methodLink "LandMap$Edges" (77 : Nat) ({ cls := "LandMap$Edges", name := "areApartByY", desc := "(II)Z" } : Jvm.MethodName)) ∈ lw_all := lw_g (lw_at lw_m6 67 rfl) rfl
theorem q1445 : (Jvm.Cond.instanceMethod ({ cls := "LandMap$Edges", name := "areApartByY", desc := "(II)Z" } : Jvm.MethodName)) ∈ lw_all := lw_g (lw_at lw_m6 68 rfl) rfl
theorem q1446 : (Jvm.Cond.selects "LandMap$Edges" ({ cls := "LandMap$Edges", name := "areApartByY", desc := "(II)Z" } : Jvm.MethodName) ({ cls := "LandMap$Edges", name := "areApartByY", desc := "(II)Z" } : Jvm.MethodName)) ∈ lw_all := lw_g (lw_at lw_m6 69 rfl) rfl
theorem q1447 : (Jvm.Cond.code ({ cls := "LandMap$Edges", name := "areApartByY", desc := "(II)Z" } : Jvm.MethodName) prog_4_method_7_code (3 : Nat) (Option.some Jvm.ClassFile.FieldType.boolean)) ∈ lw_all := lw_g (lw_at lw_m6 70 rfl) rfl
theorem q1448 : (Jvm.Cond.methodLink "LandMap$Edges" (81 : Nat) ({ cls := "LandMap$Exact", name := "sign", desc := "(J)I" } : Jvm.MethodName)) ∈ lw_all := lw_g (lw_at lw_m6 71 rfl) rfl
theorem q1449 : (Jvm.Cond.static ({ cls := "LandMap$Exact", name := "sign", desc := "(J)I" } : Jvm.MethodName)) ∈ lw_all := lw_g (lw_at lw_m6 72 rfl) rfl
theorem q1450 : (Jvm.Cond.code ({ cls := "LandMap$Exact", name := "sign", desc := "(J)I" } : Jvm.MethodName) prog_5_method_3_code (2 : Nat) (Option.some Jvm.ClassFile.FieldType.int)) ∈ lw_all := lw_g (lw_at lw_m6 73 rfl) rfl
theorem q1451 : (Jvm.Cond.methodLink "LandMap$Edges" (85 : Nat) ({ cls := "LandMap$Edges", name := "mostX", desc := "(I)I" } : Jvm.MethodName)) ∈ lw_all := lw_g (lw_at lw_m6 74 rfl) rfl
theorem q1452 : (Jvm.Cond.methodLink "LandMap$Rules" (52 : Nat) ({ cls := "LandMap$Rules", name := "doCross", desc := "(LLandMap$Feature;)Z" } : Jvm.MethodName)) ∈ lw_all := lw_g (lw_at lw_m6 75 rfl) rfl
theorem q1453 : (Jvm.Cond.privateMethod ({ cls := "LandMap$Rules", name := "doCross", desc := "(LLandMap$Feature;)Z" } : Jvm.MethodName)) ∈ lw_tbl := lw_at lw_m6 76 rfl
theorem q1454 : (Jvm.Cond.instanceMethod ({ cls := "LandMap$Rules", name := "doCross", desc := "(LLandMap$Feature;)Z" } : Jvm.MethodName)) ∈ lw_all := lw_g (lw_at lw_m6 77 rfl) rfl
theorem q1455 : (Jvm.Cond.code ({ cls := "LandMap$Rules", name := "doCross", desc := "(LLandMap$Feature;)Z" } : Jvm.MethodName) prog_19_method_7_code (6 : Nat) (Option.some Jvm.ClassFile.FieldType.boolean)) ∈ lw_all := lw_g (lw_at lw_m6 78 rfl) rfl
theorem q1456 : (Jvm.Cond.methodLink "LandMap$Rules" (118 : Nat) ({ cls := "LandMap$Edges", name := "areApartByY", desc := "(II)Z" } : Jvm.MethodName)) ∈ lw_all := lw_g (lw_at lw_m6 79 rfl) rfl
theorem q1457 : (Jvm.Cond.methodLink "LandMap$Rules" (121 : Nat) ({ cls := "LandMap$Edges", name := "cross", desc := "(II)Z" } : Jvm.MethodName)) ∈ lw_all := lw_g (lw_at lw_m6 80 rfl) rfl
theorem q1458 : (Jvm.Cond.instanceMethod ({ cls := "LandMap$Edges", name := "cross", desc := "(II)Z" } : Jvm.MethodName)) ∈ lw_all := lw_g (lw_at lw_m6 81 rfl) rfl
theorem q1459 : (Jvm.Cond.selects "LandMap$Edges" ({ cls := "LandMap$Edges", name := "cross", desc := "(II)Z" } : Jvm.MethodName) ({ cls := "LandMap$Edges", name := "cross", desc := "(II)Z" } : Jvm.MethodName)) ∈ lw_all := lw_g (lw_at lw_m6 82 rfl) rfl
theorem q1460 : (Jvm.Cond.code ({ cls := "LandMap$Edges", name := "cross", desc := "(II)Z" } : Jvm.MethodName) prog_4_method_12_code (3 : Nat) (Option.some Jvm.ClassFile.FieldType.boolean)) ∈ lw_all := lw_g (lw_at lw_m6 83 rfl) rfl
theorem q1461 : (Jvm.Cond.methodLink "LandMap$Rules" (66 : Nat) ({ cls := "LandMap$Rules", name := "nesting", desc := "(LLandMap$Feature;LLandMap$Plane;LLandMap$Faces;)I" } : Jvm.MethodName)) ∈ lw_all := lw_g (lw_at lw_m6 84 rfl) rfl
theorem q1462 : (Jvm.Cond.privateMethod ({ cls := "LandMap$Rules", name := "nesting", desc := "(LLandMap$Feature;LLandMap$Plane;LLandMap$Faces;)I" } : Jvm.MethodName)) ∈ lw_tbl := lw_at lw_m6 85 rfl
theorem q1463 : (Jvm.Cond.instanceMethod ({ cls := "LandMap$Rules", name := "nesting", desc := "(LLandMap$Feature;LLandMap$Plane;LLandMap$Faces;)I" } : Jvm.MethodName)) ∈ lw_all := lw_g (lw_at lw_m6 86 rfl) rfl
theorem q1464 : (Jvm.Cond.code ({ cls := "LandMap$Rules", name := "nesting", desc := "(LLandMap$Feature;LLandMap$Plane;LLandMap$Faces;)I" } : Jvm.MethodName) prog_19_method_8_code (8 : Nat) (Option.some Jvm.ClassFile.FieldType.int)) ∈ lw_all := lw_g (lw_at lw_m6 87 rfl) rfl
theorem q1465 : (Jvm.Cond.methodLink "LandMap$Rules" (124 : Nat) ({ cls := "LandMap$Plane", name := "begin", desc := "()V" } : Jvm.MethodName)) ∈ lw_all := lw_g (lw_at lw_m6 88 rfl) rfl
theorem q1466 : (Jvm.Cond.instanceMethod ({ cls := "LandMap$Plane", name := "begin", desc := "()V" } : Jvm.MethodName)) ∈ lw_all := lw_g (lw_at lw_m6 89 rfl) rfl
theorem q1467 : (Jvm.Cond.selects "LandMap$Plane" ({ cls := "LandMap$Plane", name := "begin", desc := "()V" } : Jvm.MethodName) ({ cls := "LandMap$Plane", name := "begin", desc := "()V" } : Jvm.MethodName)) ∈ lw_all := lw_g (lw_at lw_m6 90 rfl) rfl
theorem q1468 : (Jvm.Cond.code ({ cls := "LandMap$Plane", name := "begin", desc := "()V" } : Jvm.MethodName) prog_15_method_2_code (1 : Nat) (Option.none : Option Jvm.ClassFile.FieldType)) ∈ lw_all := lw_g (lw_at lw_m6 91 rfl) rfl
theorem q1469 : (Jvm.Cond.methodLink "LandMap$Plane" (96 : Nat) ({ cls := "LandMap$HotSet", name := "clear", desc := "()V" } : Jvm.MethodName)) ∈ lw_all := lw_g (lw_at lw_m6 92 rfl) rfl
theorem q1470 : (Jvm.Cond.instanceMethod ({ cls := "LandMap$HotSet", name := "clear", desc := "()V" } : Jvm.MethodName)) ∈ lw_all := lw_g (lw_at lw_m6 93 rfl) rfl
theorem q1471 : (Jvm.Cond.selects "LandMap$HotSet" ({ cls := "LandMap$HotSet", name := "clear", desc := "()V" } : Jvm.MethodName) ({ cls := "LandMap$HotSet", name := "clear", desc := "()V" } : Jvm.MethodName)) ∈ lw_all := lw_g (lw_at lw_m6 94 rfl) rfl
theorem q1472 : (Jvm.Cond.code ({ cls := "LandMap$HotSet", name := "clear", desc := "()V" } : Jvm.MethodName) prog_10_method_5_code (2 : Nat) (Option.none : Option Jvm.ClassFile.FieldType)) ∈ lw_all := lw_g (lw_at lw_m6 95 rfl) rfl
theorem q1473 : (Jvm.Cond.constantLong "LandMap$HotSet" (21 : Nat) (-1 : Int64)) ∈ lw_all := lw_g (lw_at lw_m6 96 rfl) rfl
theorem q1474 : (Jvm.Cond.methodLink "LandMap$Rules" (127 : Nat) ({ cls := "LandMap$Plane", name := "addRing", desc := "(LLandMap$Feature;I)V" } : Jvm.MethodName)) ∈ lw_all := lw_g (lw_at lw_m6 97 rfl) rfl
theorem q1475 : (Jvm.Cond.instanceMethod ({ cls := "LandMap$Plane", name := "addRing", desc := "(LLandMap$Feature;I)V" } : Jvm.MethodName)) ∈ lw_all := lw_g (lw_at lw_m6 98 rfl) rfl
theorem q1476 : (Jvm.Cond.selects "LandMap$Plane" ({ cls := "LandMap$Plane", name := "addRing", desc := "(LLandMap$Feature;I)V" } : Jvm.MethodName) ({ cls := "LandMap$Plane", name := "addRing", desc := "(LLandMap$Feature;I)V" } : Jvm.MethodName)) ∈ lw_all := lw_g (lw_at lw_m6 99 rfl) rfl
theorem q1477 : (Jvm.Cond.code ({ cls := "LandMap$Plane", name := "addRing", desc := "(LLandMap$Feature;I)V" } : Jvm.MethodName) prog_15_method_4_code (3 : Nat) (Option.none : Option Jvm.ClassFile.FieldType)) ∈ lw_all := lw_g (lw_at lw_m6 100 rfl) rfl
theorem q1478 : (Jvm.Cond.methodLink "LandMap$Plane" (103 : Nat) ({ cls := "LandMap$Plane", name := "addRows", desc := "(LLandMap$Feature;III)V" } : Jvm.MethodName)) ∈ lw_all := lw_g (lw_at lw_m6 101 rfl) rfl
theorem q1479 : (Jvm.Cond.instanceMethod ({ cls := "LandMap$Plane", name := "addRows", desc := "(LLandMap$Feature;III)V" } : Jvm.MethodName)) ∈ lw_all := lw_g (lw_at lw_m6 102 rfl) rfl
theorem q1480 : (Jvm.Cond.selects "LandMap$Plane" ({ cls := "LandMap$Plane", name := "addRows", desc := "(LLandMap$Feature;III)V" } : Jvm.MethodName) ({ cls := "LandMap$Plane", name := "addRows", desc := "(LLandMap$Feature;III)V" } : Jvm.MethodName)) ∈ lw_all := lw_g (lw_at lw_m6 103 rfl) rfl
theorem q1481 : (Jvm.Cond.code ({ cls := "LandMap$Plane", name := "addRows", desc := "(LLandMap$Feature;III)V" } : Jvm.MethodName) prog_15_method_5_code (7 : Nat) (Option.none : Option Jvm.ClassFile.FieldType)) ∈ lw_all := lw_g (lw_at lw_m6 104 rfl) rfl
theorem q1482 : (Jvm.Cond.methodLink "LandMap$Plane" (112 : Nat) ({ cls := "LandMap$HotSet", name := "add", desc := "(II)Z" } : Jvm.MethodName)) ∈ lw_all := lw_g (lw_at lw_m6 105 rfl) rfl
theorem q1483 : (Jvm.Cond.instanceMethod ({ cls := "LandMap$HotSet", name := "add", desc := "(II)Z" } : Jvm.MethodName)) ∈ lw_all := lw_g (lw_at lw_m6 106 rfl) rfl
theorem q1484 : (Jvm.Cond.selects "LandMap$HotSet" ({ cls := "LandMap$HotSet", name := "add", desc := "(II)Z" } : Jvm.MethodName) ({ cls := "LandMap$HotSet", name := "add", desc := "(II)Z" } : Jvm.MethodName)) ∈ lw_all := lw_g (lw_at lw_m6 107 rfl) rfl
theorem q1485 : (Jvm.Cond.code ({ cls := "LandMap$HotSet", name := "add", desc := "(II)Z" } : Jvm.MethodName) prog_10_method_6_code (6 : Nat) (Option.some Jvm.ClassFile.FieldType.boolean)) ∈ lw_all := lw_g (lw_at lw_m6 108 rfl) rfl
theorem q1486 : (Jvm.Cond.methodLink "LandMap$HotSet" (27 : Nat) ({ cls := "LandMap$HotSet", name := "key", desc := "(II)J" } : Jvm.MethodName)) ∈ lw_all := lw_g (lw_at lw_m6 109 rfl) rfl
theorem q1487 : (Jvm.Cond.static ({ cls := "LandMap$HotSet", name := "key", desc := "(II)J" } : Jvm.MethodName)) ∈ lw_all := lw_g (lw_at lw_m6 110 rfl) rfl
theorem q1488 : (Jvm.Cond.code ({ cls := "LandMap$HotSet", name := "key", desc := "(II)J" } : Jvm.MethodName) prog_10_method_2_code (2 : Nat) (Option.some Jvm.ClassFile.FieldType.long)) ∈ lw_all := lw_g (lw_at lw_m6 111 rfl) rfl
theorem q1489 : (Jvm.Cond.constant "LandMap$HotSet" (18 : Nat) (500000 : Int32)) ∈ lw_all := lw_g (lw_at lw_m6 112 rfl) rfl
theorem q1490 : (Jvm.Cond.constantLong "LandMap$HotSet" (31 : Nat) (-7046029254386353131 : Int64)) ∈ lw_all := lw_g (lw_at lw_m6 113 rfl) rfl
theorem q1491 : (Jvm.Cond.methodLink "LandMap$Plane" (116 : Nat) ({ cls := "LandMap$Edges", name := "isFull", desc := "()Z" } : Jvm.MethodName)) ∈ lw_all := lw_g (lw_at lw_m6 114 rfl) rfl
theorem q1492 : (Jvm.Cond.instanceMethod ({ cls := "LandMap$Edges", name := "isFull", desc := "()Z" } : Jvm.MethodName)) ∈ lw_all := lw_g (lw_at lw_m6 115 rfl) rfl
theorem q1493 : (Jvm.Cond.selects "LandMap$Edges" ({ cls := "LandMap$Edges", name := "isFull", desc := "()Z" } : Jvm.MethodName) ({ cls := "LandMap$Edges", name := "isFull", desc := "()Z" } : Jvm.MethodName)) ∈ lw_all := lw_g (lw_at lw_m6 116 rfl) rfl
theorem q1494 : (Jvm.Cond.code ({ cls := "LandMap$Edges", name := "isFull", desc := "()Z" } : Jvm.MethodName) prog_4_method_2_code (1 : Nat) (Option.some Jvm.ClassFile.FieldType.boolean)) ∈ lw_all := lw_g (lw_at lw_m6 117 rfl) rfl
theorem q1495 : (Jvm.Cond.methodLink "LandMap$Plane" (120 : Nat) ({ cls := "LandMap$Edges", name := "add", desc := "(IIIII)V" } : Jvm.MethodName)) ∈ lw_all := lw_g (lw_at lw_m6 118 rfl) rfl
theorem q1496 : (Jvm.Cond.methodLink "LandMap$Rules" (130 : Nat) ({ cls := "LandMap$Plane", name := "build", desc := "(Z)Z" } : Jvm.MethodName)) ∈ lw_all := lw_g (lw_at lw_m6 119 rfl) rfl
theorem q1497 : (Jvm.Cond.instanceMethod ({ cls := "LandMap$Plane", name := "build", desc := "(Z)Z" } : Jvm.MethodName)) ∈ lw_all := lw_g (lw_at lw_m6 120 rfl) rfl
theorem q1498 : (Jvm.Cond.selects "LandMap$Plane" ({ cls := "LandMap$Plane", name := "build", desc := "(Z)Z" } : Jvm.MethodName) ({ cls := "LandMap$Plane", name := "build", desc := "(Z)Z" } : Jvm.MethodName)) ∈ lw_all := lw_g (lw_at lw_m6 121 rfl) rfl
theorem q1499 : (Jvm.Cond.code ({ cls := "LandMap$Plane", name := "build", desc := "(Z)Z" } : Jvm.MethodName) prog_15_method_6_code (3 : Nat) (Option.some Jvm.ClassFile.FieldType.boolean)) ∈ lw_all := lw_g (lw_at lw_m6 122 rfl) rfl
theorem q1500 : (Jvm.Cond.methodLink "LandMap$Plane" (123 : Nat) ({ cls := "LandMap$Edges", name := "sort", desc := "()V" } : Jvm.MethodName)) ∈ lw_all := lw_g (lw_at lw_m6 123 rfl) rfl
theorem q1501 : (Jvm.Cond.methodLink "LandMap$Plane" (126 : Nat) ({ cls := "LandMap$Plane", name := "crossings", desc := "()V" } : Jvm.MethodName)) ∈ lw_all := lw_g (lw_at lw_m6 124 rfl) rfl
theorem q1502 : (Jvm.Cond.privateMethod ({ cls := "LandMap$Plane", name := "crossings", desc := "()V" } : Jvm.MethodName)) ∈ lw_tbl := lw_at lw_m6 125 rfl
theorem q1503 : (Jvm.Cond.instanceMethod ({ cls := "LandMap$Plane", name := "crossings", desc := "()V" } : Jvm.MethodName)) ∈ lw_all := lw_g (lw_at lw_m6 126 rfl) rfl
theorem q1504 : (Jvm.Cond.code ({ cls := "LandMap$Plane", name := "crossings", desc := "()V" } : Jvm.MethodName) prog_15_method_7_code (6 : Nat) (Option.none : Option Jvm.ClassFile.FieldType)) ∈ lw_all := lw_g (lw_at lw_m6 127 rfl) rfl
theorem q1505 : (Jvm.Cond.methodLink "LandMap$Plane" (145 : Nat) ({ cls := "LandMap$Edges", name := "mostX", desc := "(I)I" } : Jvm.MethodName)) ∈ lw_all := lw_g (lw_at lw_m6 128 rfl) rfl
theorem q1506 : (Jvm.Cond.methodLink "LandMap$Plane" (149 : Nat) ({ cls := "LandMap$Edges", name := "leastX", desc := "(I)I" } : Jvm.MethodName)) ∈ lw_all := lw_g (lw_at lw_m6 129 rfl) rfl
theorem q1507 : (Jvm.Cond.methodLink "LandMap$Plane" (152 : Nat) ({ cls := "LandMap$Edges", name := "meet", desc := "(II)Z" } : Jvm.MethodName)) ∈ lw_all := lw_g (lw_at lw_m6 130 rfl) rfl
theorem q1508 : (Jvm.Cond.methodLink "LandMap$Plane" (155 : Nat) ({ cls := "LandMap$Edges", name := "areInOneLine", desc := "(II)Z" } : Jvm.MethodName)) ∈ lw_all := lw_g (lw_at lw_m6 131 rfl) rfl
theorem q1509 : (Jvm.Cond.methodLink "LandMap$Plane" (158 : Nat) ({ cls := "LandMap$Plane", name := "crossing", desc := "(II)Z" } : Jvm.MethodName)) ∈ lw_all := lw_g (lw_at lw_m6 132 rfl) rfl
theorem q1510 : (Jvm.Cond.privateMethod ({ cls := "LandMap$Plane", name := "crossing", desc := "(II)Z" } : Jvm.MethodName)) ∈ lw_tbl := lw_at lw_m6 133 rfl
theorem q1511 : (Jvm.Cond.instanceMethod ({ cls := "LandMap$Plane", name := "crossing", desc := "(II)Z" } : Jvm.MethodName)) ∈ lw_all := lw_g (lw_at lw_m6 134 rfl) rfl
theorem q1512 : (Jvm.Cond.code ({ cls := "LandMap$Plane", name := "crossing", desc := "(II)Z" } : Jvm.MethodName) prog_15_method_8_code (11 : Nat) (Option.some Jvm.ClassFile.FieldType.boolean)) ∈ lw_all := lw_g (lw_at lw_m6 135 rfl) rfl
theorem q1513 : (Jvm.Cond.methodLink "LandMap$Plane" (173 : Nat) ({ cls := "LandMap$Exact", name := "rounded", desc := "(IIJJ)I" } : Jvm.MethodName)) ∈ lw_all := lw_g (lw_at lw_m6 136 rfl) rfl
theorem q1514 : (Jvm.Cond.static ({ cls := "LandMap$Exact", name := "rounded", desc := "(IIJJ)I" } : Jvm.MethodName)) ∈ lw_all := lw_g (lw_at lw_m6 137 rfl) rfl
theorem q1515 : (Jvm.Cond.code ({ cls := "LandMap$Exact", name := "rounded", desc := "(IIJJ)I" } : Jvm.MethodName) prog_5_method_8_code (6 : Nat) (Option.some Jvm.ClassFile.FieldType.int)) ∈ lw_all := lw_g (lw_at lw_m6 138 rfl) rfl
theorem q1516 : (Jvm.Cond.constantLong "LandMap$Exact" (19 : Nat) (2 : Int64)) ∈ lw_all := lw_g (lw_at lw_m6 139 rfl) rfl
theorem q1517 : (Jvm.Cond.methodLink "LandMap$Exact" (21 : Nat) ({ cls := "LandMap$Exact", name := "floorDiv", desc := "(JJ)J" } : Jvm.MethodName)) ∈ lw_all := lw_g (lw_at lw_m6 140 rfl) rfl
theorem q1518 : (Jvm.Cond.static ({ cls := "LandMap$Exact", name := "floorDiv", desc := "(JJ)J" } : Jvm.MethodName)) ∈ lw_all := lw_g (lw_at lw_m6 141 rfl) rfl
theorem q1519 : (Jvm.Cond.code ({ cls := "LandMap$Exact", name := "floorDiv", desc := "(JJ)J" } : Jvm.MethodName) prog_5_method_7_code (6 : Nat) (Option.some Jvm.ClassFile.FieldType.long)) ∈ lw_all := lw_g (lw_at lw_m6 142 rfl) rfl
theorem q1520 : (Jvm.Cond.methodLink "LandMap$Plane" (129 : Nat) ({ cls := "LandMap$Plane", name := "places", desc := "()V" } : Jvm.MethodName)) ∈ lw_all := lw_g (lw_at lw_m6 143 rfl) rfl
theorem q1521 : (Jvm.Cond.privateMethod ({ cls := "LandMap$Plane", name := "places", desc := "()V" } : Jvm.MethodName)) ∈ lw_tbl := lw_at lw_m6 144 rfl
theorem q1522 : (Jvm.Cond.instanceMethod ({ cls := "LandMap$Plane", name := "places", desc := "()V" } : Jvm.MethodName)) ∈ lw_all := lw_g (lw_at lw_m6 145 rfl) rfl
theorem q1523 : (Jvm.Cond.code ({ cls := "LandMap$Plane", name := "places", desc := "()V" } : Jvm.MethodName) prog_15_method_9_code (2 : Nat) (Option.none : Option Jvm.ClassFile.FieldType)) ∈ lw_all := lw_g (lw_at lw_m6 146 rfl) rfl
theorem q1524 : (Jvm.Cond.methodLink "LandMap$Plane" (183 : Nat) ({ cls := "LandMap$Sorter", name := "sort", desc := "([JI)V" } : Jvm.MethodName)) ∈ lw_all := lw_g (lw_at lw_m6 147 rfl) rfl
theorem q1525 : (Jvm.Cond.methodLink "LandMap$Plane" (189 : Nat) ({ cls := "LandMap$HotSet", name := "x", desc := "(J)I" } : Jvm.MethodName)) ∈ lw_all := lw_g (lw_at lw_m6 148 rfl) rfl
theorem q1526 : (Jvm.Cond.static ({ cls := "LandMap$HotSet", name := "x", desc := "(J)I" } : Jvm.MethodName)) ∈ lw_all := lw_g (lw_at lw_m6 149 rfl) rfl
theorem q1527 : (Jvm.Cond.code ({ cls := "LandMap$HotSet", name := "x", desc := "(J)I" } : Jvm.MethodName) prog_10_method_3_code (2 : Nat) (Option.some Jvm.ClassFile.FieldType.int)) ∈ lw_all := lw_g (lw_at lw_m6 150 rfl) rfl
theorem q1528 : (Jvm.Cond.methodLink "LandMap$Plane" (193 : Nat) ({ cls := "LandMap$HotSet", name := "y", desc := "(J)I" } : Jvm.MethodName)) ∈ lw_all := lw_g (lw_at lw_m6 151 rfl) rfl
theorem q1529 : (Jvm.Cond.static ({ cls := "LandMap$HotSet", name := "y", desc := "(J)I" } : Jvm.MethodName)) ∈ lw_all := lw_g (lw_at lw_m6 152 rfl) rfl
theorem q1530 : (Jvm.Cond.code ({ cls := "LandMap$HotSet", name := "y", desc := "(J)I" } : Jvm.MethodName) prog_10_method_4_code (2 : Nat) (Option.some Jvm.ClassFile.FieldType.int)) ∈ lw_all := lw_g (lw_at lw_m6 153 rfl) rfl
theorem q1531 : (Jvm.Cond.constantLong "LandMap$HotSet" (19 : Nat) (2097151 : Int64)) ∈ lw_all := lw_g (lw_at lw_m6 154 rfl) rfl
theorem q1532 : (Jvm.Cond.methodLink "LandMap$Plane" (135 : Nat) ({ cls := "LandMap$Plane", name := "bend", desc := "(IZ)V" } : Jvm.MethodName)) ∈ lw_all := lw_g (lw_at lw_m6 155 rfl) rfl
theorem q1533 : (Jvm.Cond.privateMethod ({ cls := "LandMap$Plane", name := "bend", desc := "(IZ)V" } : Jvm.MethodName)) ∈ lw_tbl := lw_at lw_m6 156 rfl
theorem q1534 : (Jvm.Cond.instanceMethod ({ cls := "LandMap$Plane", name := "bend", desc := "(IZ)V" } : Jvm.MethodName)) ∈ lw_all := lw_g (lw_at lw_m6 157 rfl) rfl
theorem q1535 : (Jvm.Cond.code ({ cls := "LandMap$Plane", name := "bend", desc := "(IZ)V" } : Jvm.MethodName) prog_15_method_12_code (13 : Nat) (Option.none : Option Jvm.ClassFile.FieldType)) ∈ lw_all := lw_g (lw_at lw_m6 158 rfl) rfl
theorem q1536 : (Jvm.Cond.methodLink "LandMap$Plane" (215 : Nat) ({ cls := "java/lang/Math", name := "min", desc := "(II)I" } : Jvm.MethodName)) ∈ lw_all := lw_g (lw_at lw_m6 159 rfl) rfl
theorem q1537 : (Jvm.Cond.methodLink "LandMap$Plane" (221 : Nat) ({ cls := "java/lang/Math", name := "max", desc := "(II)I" } : Jvm.MethodName)) ∈ lw_all := lw_g (lw_at lw_m6 160 rfl) rfl
theorem q1538 : (Jvm.Cond.methodLink "LandMap$Plane" (224 : Nat) ({ cls := "LandMap$Plane", name := "firstFrom", desc := "(I)I" } : Jvm.MethodName)) ∈ lw_all := lw_g (lw_at lw_m6 161 rfl) rfl
theorem q1539 : (Jvm.Cond.instanceMethod ({ cls := "LandMap$Plane", name := "firstFrom", desc := "(I)I" } : Jvm.MethodName)) ∈ lw_all := lw_g (lw_at lw_m6 162 rfl) rfl
theorem q1540 : (Jvm.Cond.selects "LandMap$Plane" ({ cls := "LandMap$Plane", name := "firstFrom", desc := "(I)I" } : Jvm.MethodName) ({ cls := "LandMap$Plane", name := "firstFrom", desc := "(I)I" } : Jvm.MethodName)) ∈ lw_all := lw_g (lw_at lw_m6 163 rfl) rfl
theorem q1541 : (Jvm.Cond.code ({ cls := "LandMap$Plane", name := "firstFrom", desc := "(I)I" } : Jvm.MethodName) prog_15_method_10_code (5 : Nat) (Option.some Jvm.ClassFile.FieldType.int)) ∈ lw_all := lw_g (lw_at lw_m6 164 rfl) rfl
theorem q1542 : (Jvm.Cond.methodLink "LandMap$Plane" (227 : Nat) ({ cls := "LandMap$Plane", name := "passes", desc := "(IIZ)Z" } : Jvm.MethodName)) ∈ lw_all := lw_g (lw_at lw_m6 165 rfl) rfl
theorem q1543 : (Jvm.Cond.privateMethod ({ cls := "LandMap$Plane", name := "passes", desc := "(IIZ)Z" } : Jvm.MethodName)) ∈ lw_tbl := lw_at lw_m6 166 rfl
theorem q1544 : (Jvm.Cond.instanceMethod ({ cls := "LandMap$Plane", name := "passes", desc := "(IIZ)Z" } : Jvm.MethodName)) ∈ lw_all := lw_g (lw_at lw_m6 167 rfl) rfl
theorem q1545 : (Jvm.Cond.code ({ cls := "LandMap$Plane", name := "passes", desc := "(IIZ)Z" } : Jvm.MethodName) prog_15_method_11_code (6 : Nat) (Option.some Jvm.ClassFile.FieldType.boolean)) ∈ lw_all := lw_g (lw_at lw_m6 168 rfl) rfl
theorem q1546 : (Jvm.Cond.methodLink "LandMap$Plane" (196 : Nat) ({ cls := "LandMap$Edges", name := "isOn", desc := "(III)Z" } : Jvm.MethodName)) ∈ lw_all := lw_g (lw_at lw_m6 169 rfl) rfl
theorem q1547 : (Jvm.Cond.instanceMethod ({ cls := "LandMap$Edges", name := "isOn", desc := "(III)Z" } : Jvm.MethodName)) ∈ lw_all := lw_g (lw_at lw_m6 170 rfl) rfl
theorem q1548 : (Jvm.Cond.selects "LandMap$Edges" ({ cls := "LandMap$Edges", name := "isOn", desc := "(III)Z" } : Jvm.MethodName) ({ cls := "LandMap$Edges", name := "isOn", desc := "(III)Z" } : Jvm.MethodName)) ∈ lw_all := lw_g (lw_at lw_m6 171 rfl) rfl
theorem q1549 : (Jvm.Cond.code ({ cls := "LandMap$Edges", name := "isOn", desc := "(III)Z" } : Jvm.MethodName) prog_4_method_9_code (4 : Nat) (Option.some Jvm.ClassFile.FieldType.boolean)) ∈ lw_all := lw_g (lw_at lw_m6 172 rfl) rfl
theorem q1550 : (Jvm.Cond.methodLink "LandMap$Edges" (70 : Nat) ({ cls := "LandMap$Exact", name := "isOn", desc := "(IIIIII)Z" } : Jvm.MethodName)) ∈ lw_all := lw_g (lw_at lw_m6 173 rfl) rfl
theorem q1551 : (Jvm.Cond.static ({ cls := "LandMap$Exact", name := "isOn", desc := "(IIIIII)Z" } : Jvm.MethodName)) ∈ lw_all := lw_g (lw_at lw_m6 174 rfl) rfl
theorem q1552 : (Jvm.Cond.code ({ cls := "LandMap$Exact", name := "isOn", desc := "(IIIIII)Z" } : Jvm.MethodName) prog_5_method_5_code (6 : Nat) (Option.some Jvm.ClassFile.FieldType.boolean)) ∈ lw_all := lw_g (lw_at lw_m6 175 rfl) rfl
theorem q1553 : (Jvm.Cond.methodLink "LandMap$Exact" (7 : Nat) ({ cls := "LandMap$Exact", name := "isBetween", desc := "(III)Z" } : Jvm.MethodName)) ∈ lw_all := lw_g (lw_at lw_m6 176 rfl) rfl
theorem q1554 : (Jvm.Cond.static ({ cls := "LandMap$Exact", name := "isBetween", desc := "(III)Z" } : Jvm.MethodName)) ∈ lw_all := lw_g (lw_at lw_m6 177 rfl) rfl
theorem q1555 : (Jvm.Cond.code ({ cls := "LandMap$Exact", name := "isBetween", desc := "(III)Z" } : Jvm.MethodName) prog_5_method_4_code (3 : Nat) (Option.some Jvm.ClassFile.FieldType.boolean)) ∈ lw_all := lw_g (lw_at lw_m6 178 rfl) rfl
theorem q1556 : (Jvm.Cond.methodLink "LandMap$Exact" (13 : Nat) ({ cls := "LandMap$Exact", name := "side", desc := "(IIIIII)J" } : Jvm.MethodName)) ∈ lw_all := lw_g (lw_at lw_m6 179 rfl) rfl
theorem q1557 : (Jvm.Cond.methodLink "LandMap$Plane" (200 : Nat) ({ cls := "LandMap$Part", name := "whole", desc := "()V" } : Jvm.MethodName)) ∈ lw_all := lw_g (lw_at lw_m6 180 rfl) rfl
theorem q1558 : (Jvm.Cond.instanceMethod ({ cls := "LandMap$Part", name := "whole", desc := "()V" } : Jvm.MethodName)) ∈ lw_all := lw_g (lw_at lw_m6 181 rfl) rfl
theorem q1559 : (Jvm.Cond.selects "LandMap$Part" ({ cls := "LandMap$Part", name := "whole", desc := "()V" } : Jvm.MethodName) ({ cls := "LandMap$Part", name := "whole", desc := "()V" } : Jvm.MethodName)) ∈ lw_all := lw_g (lw_at lw_m6 182 rfl) rfl
theorem q1560 : (Jvm.Cond.code ({ cls := "LandMap$Part", name := "whole", desc := "()V" } : Jvm.MethodName) prog_14_method_2_code (1 : Nat) (Option.none : Option Jvm.ClassFile.FieldType)) ∈ lw_all := lw_g (lw_at lw_m6 183 rfl) rfl
theorem q1561 : (Jvm.Cond.constantLong "LandMap$Plane" (203 : Nat) (2 : Int64)) ∈ lw_all := lw_g (lw_at lw_m6 184 rfl) rfl
theorem q1562 : (Jvm.Cond.methodLink "LandMap$Plane" (205 : Nat) ({ cls := "LandMap$Part", name := "within", desc := "(JJJJ)Z" } : Jvm.MethodName)) ∈ lw_all := lw_g (lw_at lw_m6 185 rfl) rfl
theorem q1563 : (Jvm.Cond.instanceMethod ({ cls := "LandMap$Part", name := "within", desc := "(JJJJ)Z" } : Jvm.MethodName)) ∈ lw_all := lw_g (lw_at lw_m6 186 rfl) rfl
theorem q1564 : (Jvm.Cond.selects "LandMap$Part" ({ cls := "LandMap$Part", name := "within", desc := "(JJJJ)Z" } : Jvm.MethodName) ({ cls := "LandMap$Part", name := "within", desc := "(JJJJ)Z" } : Jvm.MethodName)) ∈ lw_all := lw_g (lw_at lw_m6 187 rfl) rfl
theorem q1565 : (Jvm.Cond.code ({ cls := "LandMap$Part", name := "within", desc := "(JJJJ)Z" } : Jvm.MethodName) prog_14_method_5_code (9 : Nat) (Option.some Jvm.ClassFile.FieldType.boolean)) ∈ lw_all := lw_g (lw_at lw_m6 188 rfl) rfl
theorem q1566 : (Jvm.Cond.methodLink "LandMap$Part" (29 : Nat) ({ cls := "LandMap$Part", name := "raise", desc := "(JJZ)V" } : Jvm.MethodName)) ∈ lw_all := lw_g (lw_at lw_m6 189 rfl) rfl
theorem q1567 : (Jvm.Cond.privateMethod ({ cls := "LandMap$Part", name := "raise", desc := "(JJZ)V" } : Jvm.MethodName)) ∈ lw_tbl := lw_at lw_m6 190 rfl
theorem q1568 : (Jvm.Cond.instanceMethod ({ cls := "LandMap$Part", name := "raise", desc := "(JJZ)V" } : Jvm.MethodName)) ∈ lw_all := lw_g (lw_at lw_m6 191 rfl) rfl
theorem q1569 : (Jvm.Cond.code ({ cls := "LandMap$Part", name := "raise", desc := "(JJZ)V" } : Jvm.MethodName) prog_14_method_3_code (10 : Nat) (Option.none : Option Jvm.ClassFile.FieldType)) ∈ lw_all := lw_g (lw_at lw_m6 192 rfl) rfl
theorem q1570 : (Jvm.Cond.methodLink "LandMap$Part" (33 : Nat) ({ cls := "LandMap$Part", name := "lower", desc := "(JJZ)V" } : Jvm.MethodName)) ∈ lw_all := lw_g (lw_at lw_m6 193 rfl) rfl
theorem q1571 : (Jvm.Cond.privateMethod ({ cls := "LandMap$Part", name := "lower", desc := "(JJZ)V" } : Jvm.MethodName)) ∈ lw_tbl := lw_at lw_m6 194 rfl
theorem q1572 : (Jvm.Cond.instanceMethod ({ cls := "LandMap$Part", name := "lower", desc := "(JJZ)V" } : Jvm.MethodName)) ∈ lw_all := lw_g (lw_at lw_m6 195 rfl) rfl
theorem q1573 : (Jvm.Cond.code ({ cls := "LandMap$Part", name := "lower", desc := "(JJZ)V" } : Jvm.MethodName) prog_14_method_4_code (10 : Nat) (Option.none : Option Jvm.ClassFile.FieldType)) ∈ lw_all := lw_g (lw_at lw_m6 196 rfl) rfl
theorem q1574 : (Jvm.Cond.methodLink "LandMap$Plane" (209 : Nat) ({ cls := "LandMap$Part", name := "isThere", desc := "()Z" } : Jvm.MethodName)) ∈ lw_all := lw_g (lw_at lw_m6 197 rfl) rfl
theorem q1575 : (Jvm.Cond.instanceMethod ({ cls := "LandMap$Part", name := "isThere", desc := "()Z" } : Jvm.MethodName)) ∈ lw_all := lw_g (lw_at lw_m6 198 rfl) rfl
theorem q1576 : (Jvm.Cond.selects "LandMap$Part" ({ cls := "LandMap$Part", name := "isThere", desc := "()Z" } : Jvm.MethodName) ({ cls := "LandMap$Part", name := "isThere", desc := "()Z" } : Jvm.MethodName)) ∈ lw_all := lw_g (lw_at lw_m6 199 rfl) rfl
theorem q1577 : (Jvm.Cond.code ({ cls := "LandMap$Part", name := "isThere", desc := "()Z" } : Jvm.MethodName) prog_14_method_6_code (5 : Nat) (Option.some Jvm.ClassFile.FieldType.boolean)) ∈ lw_all := lw_g (lw_at lw_m6 200 rfl) rfl
theorem q1578 : (Jvm.Cond.methodLink "LandMap$Plane" (139 : Nat) ({ cls := "LandMap$Plane", name := "gather", desc := "()V" } : Jvm.MethodName)) ∈ lw_all := lw_g (lw_at lw_m6 201 rfl) rfl
theorem q1579 : (Jvm.Cond.privateMethod ({ cls := "LandMap$Plane", name := "gather", desc := "()V" } : Jvm.MethodName)) ∈ lw_tbl := lw_at lw_m6 202 rfl
theorem q1580 : (Jvm.Cond.instanceMethod ({ cls := "LandMap$Plane", name := "gather", desc := "()V" } : Jvm.MethodName)) ∈ lw_all := lw_g (lw_at lw_m6 203 rfl) rfl
theorem q1581 : (Jvm.Cond.code ({ cls := "LandMap$Plane", name := "gather", desc := "()V" } : Jvm.MethodName) prog_15_method_13_code (4 : Nat) (Option.none : Option Jvm.ClassFile.FieldType)) ∈ lw_all := lw_g (lw_at lw_m6 204 rfl) rfl
theorem q1582 : (Jvm.Cond.constantLong "LandMap$Plane" (237 : Nat) (8191 : Int64)) ∈ lw_all := lw_g (lw_at lw_m6 205 rfl) rfl
theorem q1583 : (Jvm.Cond.constantLong "LandMap$Plane" (239 : Nat) (511 : Int64)) ∈ lw_all := lw_g (lw_at lw_m6 206 rfl) rfl
theorem q1584 : (Jvm.Cond.methodLink "LandMap$Rules" (134 : Nat) ({ cls := "LandMap$Faces", name := "build", desc := "()V" } : Jvm.MethodName)) ∈ lw_all := lw_g (lw_at lw_m6 207 rfl) rfl
theorem q1585 : (Jvm.Cond.instanceMethod ({ cls := "LandMap$Faces", name := "build", desc := "()V" } : Jvm.MethodName)) ∈ lw_all := lw_g (lw_at lw_m6 208 rfl) rfl
theorem q1586 : (Jvm.Cond.selects "LandMap$Faces" ({ cls := "LandMap$Faces", name := "build", desc := "()V" } : Jvm.MethodName) ({ cls := "LandMap$Faces", name := "build", desc := "()V" } : Jvm.MethodName)) ∈ lw_all := lw_g (lw_at lw_m6 209 rfl) rfl
theorem q1587 : (Jvm.Cond.code ({ cls := "LandMap$Faces", name := "build", desc := "()V" } : Jvm.MethodName) prog_6_method_5_code (1 : Nat) (Option.none : Option Jvm.ClassFile.FieldType)) ∈ lw_all := lw_g (lw_at lw_m6 210 rfl) rfl
theorem q1588 : (Jvm.Cond.methodLink "LandMap$Faces" (92 : Nat) ({ cls := "LandMap$Faces", name := "turnOut", desc := "()V" } : Jvm.MethodName)) ∈ lw_all := lw_g (lw_at lw_m6 211 rfl) rfl
theorem q1589 : (Jvm.Cond.privateMethod ({ cls := "LandMap$Faces", name := "turnOut", desc := "()V" } : Jvm.MethodName)) ∈ lw_tbl := lw_at lw_m6 212 rfl
theorem q1590 : (Jvm.Cond.instanceMethod ({ cls := "LandMap$Faces", name := "turnOut", desc := "()V" } : Jvm.MethodName)) ∈ lw_all := lw_g (lw_at lw_m6 213 rfl) rfl
theorem q1591 : (Jvm.Cond.code ({ cls := "LandMap$Faces", name := "turnOut", desc := "()V" } : Jvm.MethodName) prog_6_method_8_code (4 : Nat) (Option.none : Option Jvm.ClassFile.FieldType)) ∈ lw_all := lw_g (lw_at lw_m6 214 rfl) rfl
theorem q1592 : (Jvm.Cond.methodLink "LandMap$Faces" (88 : Nat) ({ cls := "LandMap$Faces", name := "from", desc := "(I)I" } : Jvm.MethodName)) ∈ lw_all := lw_g (lw_at lw_m6 215 rfl) rfl
theorem q1593 : (Jvm.Cond.instanceMethod ({ cls := "LandMap$Faces", name := "from", desc := "(I)I" } : Jvm.MethodName)) ∈ lw_all := lw_g (lw_at lw_m6 216 rfl) rfl
theorem q1594 : (Jvm.Cond.selects "LandMap$Faces" ({ cls := "LandMap$Faces", name := "from", desc := "(I)I" } : Jvm.MethodName) ({ cls := "LandMap$Faces", name := "from", desc := "(I)I" } : Jvm.MethodName)) ∈ lw_all := lw_g (lw_at lw_m6 217 rfl) rfl
theorem q1595 : (Jvm.Cond.code ({ cls := "LandMap$Faces", name := "from", desc := "(I)I" } : Jvm.MethodName) prog_6_method_2_code (2 : Nat) (Option.some Jvm.ClassFile.FieldType.int)) ∈ lw_all := lw_g (lw_at lw_m6 218 rfl) rfl
theorem q1596 : (Jvm.Cond.methodLink "LandMap$Faces" (127 : Nat) ({ cls := "LandMap$Faces", name := "isBefore", desc := "(II)Z" } : Jvm.MethodName)) ∈ lw_all := lw_g (lw_at lw_m6 219 rfl) rfl
theorem q1597 : (Jvm.Cond.privateMethod ({ cls := "LandMap$Faces", name := "isBefore", desc := "(II)Z" } : Jvm.MethodName)) ∈ lw_tbl := lw_at lw_m6 220 rfl
theorem q1598 : (Jvm.Cond.instanceMethod ({ cls := "LandMap$Faces", name := "isBefore", desc := "(II)Z" } : Jvm.MethodName)) ∈ lw_all := lw_g (lw_at lw_m6 221 rfl) rfl
theorem q1599 : (Jvm.Cond.code ({ cls := "LandMap$Faces", name := "isBefore", desc := "(II)Z" } : Jvm.MethodName) prog_6_method_7_code (7 : Nat) (Option.some Jvm.ClassFile.FieldType.boolean)) ∈ lw_all := lw_g (lw_at lw_m6 222 rfl) rfl
theorem q1600 : (Jvm.Cond.methodLink "LandMap$Faces" (110 : Nat) ({ cls := "LandMap$Faces", name := "to", desc := "(I)I" } : Jvm.MethodName)) ∈ lw_all := lw_g (lw_at lw_m6 223 rfl) rfl
theorem q1601 : (Jvm.Cond.instanceMethod ({ cls := "LandMap$Faces", name := "to", desc := "(I)I" } : Jvm.MethodName)) ∈ lw_all := lw_g (lw_at lw_m6 224 rfl) rfl
theorem q1602 : (Jvm.Cond.selects "LandMap$Faces" ({ cls := "LandMap$Faces", name := "to", desc := "(I)I" } : Jvm.MethodName) ({ cls := "LandMap$Faces", name := "to", desc := "(I)I" } : Jvm.MethodName)) ∈ lw_all := lw_g (lw_at lw_m6 225 rfl) rfl
theorem q1603 : (Jvm.Cond.code ({ cls := "LandMap$Faces", name := "to", desc := "(I)I" } : Jvm.MethodName) prog_6_method_3_code (2 : Nat) (Option.some Jvm.ClassFile.FieldType.int)) ∈ lw_all := lw_g (lw_at lw_m6 226 rfl) rfl
theorem q1604 : (Jvm.Cond.methodLink "LandMap$Faces" (116 : Nat) ({ cls := "LandMap$Faces", name := "half", desc := "(II)I" } : Jvm.MethodName)) ∈ lw_all := lw_g (lw_at lw_m6 227 rfl) rfl
theorem q1605 : (Jvm.Cond.static ({ cls := "LandMap$Faces", name := "half", desc := "(II)I" } : Jvm.MethodName)) ∈ lw_all := lw_g (lw_at lw_m6 228 rfl) rfl
theorem q1606 : (Jvm.Cond.code ({ cls := "LandMap$Faces", name := "half", desc := "(II)I" } : Jvm.MethodName) prog_6_method_6_code (2 : Nat) (Option.some Jvm.ClassFile.FieldType.int)) ∈ lw_all := lw_g (lw_at lw_m6 229 rfl) rfl
theorem q1607 : (Jvm.Cond.methodLink "LandMap$Faces" (95 : Nat) ({ cls := "LandMap$Faces", name := "goRound", desc := "()V" } : Jvm.MethodName)) ∈ lw_all := lw_g (lw_at lw_m6 230 rfl) rfl
theorem q1608 : (Jvm.Cond.privateMethod ({ cls := "LandMap$Faces", name := "goRound", desc := "()V" } : Jvm.MethodName)) ∈ lw_tbl := lw_at lw_m6 231 rfl
theorem q1609 : (Jvm.Cond.instanceMethod ({ cls := "LandMap$Faces", name := "goRound", desc := "()V" } : Jvm.MethodName)) ∈ lw_all := lw_g (lw_at lw_m6 232 rfl) rfl
theorem q1610 : (Jvm.Cond.code ({ cls := "LandMap$Faces", name := "goRound", desc := "()V" } : Jvm.MethodName) prog_6_method_12_code (5 : Nat) (Option.none : Option Jvm.ClassFile.FieldType)) ∈ lw_all := lw_g (lw_at lw_m6 233 rfl) rfl
theorem q1611 : (Jvm.Cond.methodLink "LandMap$Faces" (134 : Nat) ({ cls := "java/lang/Math", name := "min", desc := "(II)I" } : Jvm.MethodName)) ∈ lw_all := lw_g (lw_at lw_m6 234 rfl) rfl
theorem q1612 : (Jvm.Cond.methodLink "LandMap$Faces" (139 : Nat) ({ cls := "LandMap$Faces", name := "next", desc := "(I)I" } : Jvm.MethodName)) ∈ lw_all := lw_g (lw_at lw_m6 235 rfl) rfl
theorem q1613 : (Jvm.Cond.instanceMethod ({ cls := "LandMap$Faces", name := "next", desc := "(I)I" } : Jvm.MethodName)) ∈ lw_all := lw_g (lw_at lw_m6 236 rfl) rfl
theorem q1614 : (Jvm.Cond.selects "LandMap$Faces" ({ cls := "LandMap$Faces", name := "next", desc := "(I)I" } : Jvm.MethodName) ({ cls := "LandMap$Faces", name := "next", desc := "(I)I" } : Jvm.MethodName)) ∈ lw_all := lw_g (lw_at lw_m6 237 rfl) rfl
theorem q1615 : (Jvm.Cond.code ({ cls := "LandMap$Faces", name := "next", desc := "(I)I" } : Jvm.MethodName) prog_6_method_11_code (5 : Nat) (Option.some Jvm.ClassFile.FieldType.int)) ∈ lw_all := lw_g (lw_at lw_m6 238 rfl) rfl
theorem q1616 : (Jvm.Cond.methodLink "LandMap$Faces" (98 : Nat) ({ cls := "LandMap$Faces", name := "number", desc := "()V" } : Jvm.MethodName)) ∈ lw_all := lw_g (lw_at lw_m6 239 rfl) rfl
theorem q1617 : (Jvm.Cond.privateMethod ({ cls := "LandMap$Faces", name := "number", desc := "()V" } : Jvm.MethodName)) ∈ lw_tbl := lw_at lw_m7 0 rfl
theorem q1618 : (Jvm.Cond.instanceMethod ({ cls := "LandMap$Faces", name := "number", desc := "()V" } : Jvm.MethodName)) ∈ lw_all := lw_g (lw_at lw_m7 1 rfl) rfl
theorem q1619 : (Jvm.Cond.code ({ cls := "LandMap$Faces", name := "number", desc := "()V" } : Jvm.MethodName) prog_6_method_14_code (3 : Nat) (Option.none : Option Jvm.ClassFile.FieldType)) ∈ lw_all := lw_g (lw_at lw_m7 2 rfl) rfl
theorem q1620 : (Jvm.Cond.methodLink "LandMap$Faces" (149 : Nat) ({ cls := "LandMap$Faces", name := "keyOf", desc := "(I)J" } : Jvm.MethodName)) ∈ lw_all := lw_g (lw_at lw_m7 3 rfl) rfl
theorem q1621 : (Jvm.Cond.privateMethod ({ cls := "LandMap$Faces", name := "keyOf", desc := "(I)J" } : Jvm.MethodName)) ∈ lw_tbl := lw_at lw_m7 4 rfl
theorem q1622 : (Jvm.Cond.instanceMethod ({ cls := "LandMap$Faces", name := "keyOf", desc := "(I)J" } : Jvm.MethodName)) ∈ lw_all := lw_g (lw_at lw_m7 5 rfl) rfl
theorem q1623 : (Jvm.Cond.code ({ cls := "LandMap$Faces", name := "keyOf", desc := "(I)J" } : Jvm.MethodName) prog_6_method_13_code (5 : Nat) (Option.some Jvm.ClassFile.FieldType.long)) ∈ lw_all := lw_g (lw_at lw_m7 6 rfl) rfl
theorem q1624 : (Jvm.Cond.constantLong "LandMap$Faces" (144 : Nat) (9223372036854775807 : Int64)) ∈ lw_all := lw_g (lw_at lw_m7 7 rfl) rfl
theorem q1625 : (Jvm.Cond.methodLink "LandMap$Faces" (146 : Nat) ({ cls := "java/lang/Math", name := "min", desc := "(JJ)J" } : Jvm.MethodName)) ∈ lw_all := lw_g (lw_at lw_m7 8 rfl) rfl
theorem q1626 : (Jvm.Cond.methodLink "LandMap$Faces" (153 : Nat) ({ cls := "LandMap$Sorter", name := "sort", desc := "([JI)V" } : Jvm.MethodName)) ∈ lw_all := lw_g (lw_at lw_m7 9 rfl) rfl
theorem q1627 : (Jvm.Cond.constantLong "LandMap$Faces" (160 : Nat) (32767 : Int64)) ∈ lw_all := lw_g (lw_at lw_m7 10 rfl) rfl
theorem q1628 : (Jvm.Cond.methodLink "LandMap$Faces" (162 : Nat) ({ cls := "LandMap$Faces", name := "belong", desc := "(II)V" } : Jvm.MethodName)) ∈ lw_all := lw_g (lw_at lw_m7 11 rfl) rfl
theorem q1629 : (Jvm.Cond.privateMethod ({ cls := "LandMap$Faces", name := "belong", desc := "(II)V" } : Jvm.MethodName)) ∈ lw_tbl := lw_at lw_m7 12 rfl
theorem q1630 : (Jvm.Cond.instanceMethod ({ cls := "LandMap$Faces", name := "belong", desc := "(II)V" } : Jvm.MethodName)) ∈ lw_all := lw_g (lw_at lw_m7 13 rfl) rfl
theorem q1631 : (Jvm.Cond.code ({ cls := "LandMap$Faces", name := "belong", desc := "(II)V" } : Jvm.MethodName) prog_6_method_15_code (3 : Nat) (Option.none : Option Jvm.ClassFile.FieldType)) ∈ lw_all := lw_g (lw_at lw_m7 14 rfl) rfl
theorem q1632 : (Jvm.Cond.methodLink "LandMap$Faces" (101 : Nat) ({ cls := "LandMap$Faces", name := "nest", desc := "()V" } : Jvm.MethodName)) ∈ lw_all := lw_g (lw_at lw_m7 15 rfl) rfl
theorem q1633 : (Jvm.Cond.privateMethod ({ cls := "LandMap$Faces", name := "nest", desc := "()V" } : Jvm.MethodName)) ∈ lw_tbl := lw_at lw_m7 16 rfl
theorem q1634 : (Jvm.Cond.instanceMethod ({ cls := "LandMap$Faces", name := "nest", desc := "()V" } : Jvm.MethodName)) ∈ lw_all := lw_g (lw_at lw_m7 17 rfl) rfl
theorem q1635 : (Jvm.Cond.code ({ cls := "LandMap$Faces", name := "nest", desc := "()V" } : Jvm.MethodName) prog_6_method_16_code (4 : Nat) (Option.none : Option Jvm.ClassFile.FieldType)) ∈ lw_all := lw_g (lw_at lw_m7 18 rfl) rfl
theorem q1636 : (Jvm.Cond.methodLink "LandMap$Faces" (166 : Nat) ({ cls := "LandMap$Faces", name := "faceLeftOf", desc := "(II)I" } : Jvm.MethodName)) ∈ lw_all := lw_g (lw_at lw_m7 19 rfl) rfl
theorem q1637 : (Jvm.Cond.instanceMethod ({ cls := "LandMap$Faces", name := "faceLeftOf", desc := "(II)I" } : Jvm.MethodName)) ∈ lw_all := lw_g (lw_at lw_m7 20 rfl) rfl
theorem q1638 : (Jvm.Cond.selects "LandMap$Faces" ({ cls := "LandMap$Faces", name := "faceLeftOf", desc := "(II)I" } : Jvm.MethodName) ({ cls := "LandMap$Faces", name := "faceLeftOf", desc := "(II)I" } : Jvm.MethodName)) ∈ lw_all := lw_g (lw_at lw_m7 21 rfl) rfl
theorem q1639 : (Jvm.Cond.code ({ cls := "LandMap$Faces", name := "faceLeftOf", desc := "(II)I" } : Jvm.MethodName) prog_6_method_18_code (8 : Nat) (Option.some Jvm.ClassFile.FieldType.int)) ∈ lw_all := lw_g (lw_at lw_m7 22 rfl) rfl
theorem q1640 : (Jvm.Cond.methodLink "LandMap$Faces" (169 : Nat) ({ cls := "LandMap$Faces", name := "up", desc := "(I)I" } : Jvm.MethodName)) ∈ lw_all := lw_g (lw_at lw_m7 23 rfl) rfl
theorem q1641 : (Jvm.Cond.privateMethod ({ cls := "LandMap$Faces", name := "up", desc := "(I)I" } : Jvm.MethodName)) ∈ lw_tbl := lw_at lw_m7 24 rfl
theorem q1642 : (Jvm.Cond.instanceMethod ({ cls := "LandMap$Faces", name := "up", desc := "(I)I" } : Jvm.MethodName)) ∈ lw_all := lw_g (lw_at lw_m7 25 rfl) rfl
theorem q1643 : (Jvm.Cond.code ({ cls := "LandMap$Faces", name := "up", desc := "(I)I" } : Jvm.MethodName) prog_6_method_17_code (2 : Nat) (Option.some Jvm.ClassFile.FieldType.int)) ∈ lw_all := lw_g (lw_at lw_m7 26 rfl) rfl
theorem q1644 : (Jvm.Cond.methodLink "LandMap$Faces" (172 : Nat) ({ cls := "LandMap$Exact", name := "side", desc := "(IIIIII)J" } : Jvm.MethodName)) ∈ lw_all := lw_g (lw_at lw_m7 27 rfl) rfl
theorem q1645 : (Jvm.Cond.methodLink "LandMap$Faces" (178 : Nat) ({ cls := "LandMap$Faces", name := "isNearer", desc := "(III)Z" } : Jvm.MethodName)) ∈ lw_all := lw_g (lw_at lw_m7 28 rfl) rfl
theorem q1646 : (Jvm.Cond.privateMethod ({ cls := "LandMap$Faces", name := "isNearer", desc := "(III)Z" } : Jvm.MethodName)) ∈ lw_tbl := lw_at lw_m7 29 rfl
theorem q1647 : (Jvm.Cond.instanceMethod ({ cls := "LandMap$Faces", name := "isNearer", desc := "(III)Z" } : Jvm.MethodName)) ∈ lw_all := lw_g (lw_at lw_m7 30 rfl) rfl
theorem q1648 : (Jvm.Cond.code ({ cls := "LandMap$Faces", name := "isNearer", desc := "(III)Z" } : Jvm.MethodName) prog_6_method_19_code (16 : Nat) (Option.some Jvm.ClassFile.FieldType.boolean)) ∈ lw_all := lw_g (lw_at lw_m7 31 rfl) rfl
theorem q1649 : (Jvm.Cond.methodLink "LandMap$Faces" (182 : Nat) ({ cls := "LandMap$Faces", name := "left", desc := "(I)I" } : Jvm.MethodName)) ∈ lw_all := lw_g (lw_at lw_m7 32 rfl) rfl
theorem q1650 : (Jvm.Cond.instanceMethod ({ cls := "LandMap$Faces", name := "left", desc := "(I)I" } : Jvm.MethodName)) ∈ lw_all := lw_g (lw_at lw_m7 33 rfl) rfl
theorem q1651 : (Jvm.Cond.selects "LandMap$Faces" ({ cls := "LandMap$Faces", name := "left", desc := "(I)I" } : Jvm.MethodName) ({ cls := "LandMap$Faces", name := "left", desc := "(I)I" } : Jvm.MethodName)) ∈ lw_all := lw_g (lw_at lw_m7 34 rfl) rfl
theorem q1652 : (Jvm.Cond.code ({ cls := "LandMap$Faces", name := "left", desc := "(I)I" } : Jvm.MethodName) prog_6_method_4_code (2 : Nat) (Option.some Jvm.ClassFile.FieldType.int)) ∈ lw_all := lw_g (lw_at lw_m7 35 rfl) rfl
theorem q1653 : (Jvm.Cond.methodLink "LandMap$Faces" (104 : Nat) ({ cls := "LandMap$Faces", name := "cover", desc := "()V" } : Jvm.MethodName)) ∈ lw_all := lw_g (lw_at lw_m7 36 rfl) rfl
theorem q1654 : (Jvm.Cond.privateMethod ({ cls := "LandMap$Faces", name := "cover", desc := "()V" } : Jvm.MethodName)) ∈ lw_tbl := lw_at lw_m7 37 rfl
theorem q1655 : (Jvm.Cond.instanceMethod ({ cls := "LandMap$Faces", name := "cover", desc := "()V" } : Jvm.MethodName)) ∈ lw_all := lw_g (lw_at lw_m7 38 rfl) rfl
theorem q1656 : (Jvm.Cond.code ({ cls := "LandMap$Faces", name := "cover", desc := "()V" } : Jvm.MethodName) prog_6_method_22_code (7 : Nat) (Option.none : Option Jvm.ClassFile.FieldType)) ∈ lw_all := lw_g (lw_at lw_m7 39 rfl) rfl
theorem q1657 : (Jvm.Cond.methodLink "LandMap$Faces" (189 : Nat) ({ cls := "LandMap$Faces", name := "pass", desc := "(III)V" } : Jvm.MethodName)) ∈ lw_all := lw_g (lw_at lw_m7 40 rfl) rfl
theorem q1658 : (Jvm.Cond.privateMethod ({ cls := "LandMap$Faces", name := "pass", desc := "(III)V" } : Jvm.MethodName)) ∈ lw_tbl := lw_at lw_m7 41 rfl
theorem q1659 : (Jvm.Cond.instanceMethod ({ cls := "LandMap$Faces", name := "pass", desc := "(III)V" } : Jvm.MethodName)) ∈ lw_all := lw_g (lw_at lw_m7 42 rfl) rfl
theorem q1660 : (Jvm.Cond.code ({ cls := "LandMap$Faces", name := "pass", desc := "(III)V" } : Jvm.MethodName) prog_6_method_23_code (6 : Nat) (Option.none : Option Jvm.ClassFile.FieldType)) ∈ lw_all := lw_g (lw_at lw_m7 43 rfl) rfl
theorem q1661 : (Jvm.Cond.methodLink "LandMap$Faces" (202 : Nat) ({ cls := "LandMap$Plane", name := "isArea", desc := "(I)Z" } : Jvm.MethodName)) ∈ lw_all := lw_g (lw_at lw_m7 44 rfl) rfl
theorem q1662 : (Jvm.Cond.instanceMethod ({ cls := "LandMap$Plane", name := "isArea", desc := "(I)Z" } : Jvm.MethodName)) ∈ lw_all := lw_g (lw_at lw_m7 45 rfl) rfl
theorem q1663 : (Jvm.Cond.selects "LandMap$Plane" ({ cls := "LandMap$Plane", name := "isArea", desc := "(I)Z" } : Jvm.MethodName) ({ cls := "LandMap$Plane", name := "isArea", desc := "(I)Z" } : Jvm.MethodName)) ∈ lw_all := lw_g (lw_at lw_m7 46 rfl) rfl
theorem q1664 : (Jvm.Cond.code ({ cls := "LandMap$Plane", name := "isArea", desc := "(I)Z" } : Jvm.MethodName) prog_15_method_15_code (2 : Nat) (Option.some Jvm.ClassFile.FieldType.boolean)) ∈ lw_all := lw_g (lw_at lw_m7 47 rfl) rfl
theorem q1665 : (Jvm.Cond.methodLink "LandMap$Rules" (140 : Nat) ({ cls := "LandMap$Faces", name := "isCovered", desc := "(II)Z" } : Jvm.MethodName)) ∈ lw_all := lw_g (lw_at lw_m7 48 rfl) rfl
theorem q1666 : (Jvm.Cond.instanceMethod ({ cls := "LandMap$Faces", name := "isCovered", desc := "(II)Z" } : Jvm.MethodName)) ∈ lw_all := lw_g (lw_at lw_m7 49 rfl) rfl
theorem q1667 : (Jvm.Cond.selects "LandMap$Faces" ({ cls := "LandMap$Faces", name := "isCovered", desc := "(II)Z" } : Jvm.MethodName) ({ cls := "LandMap$Faces", name := "isCovered", desc := "(II)Z" } : Jvm.MethodName)) ∈ lw_all := lw_g (lw_at lw_m7 50 rfl) rfl
theorem q1668 : (Jvm.Cond.code ({ cls := "LandMap$Faces", name := "isCovered", desc := "(II)Z" } : Jvm.MethodName) prog_6_method_24_code (3 : Nat) (Option.some Jvm.ClassFile.FieldType.boolean)) ∈ lw_all := lw_g (lw_at lw_m7 51 rfl) rfl
theorem q1669 : (Jvm.Cond.methodLink "LandMap$Rules" (143 : Nat) ({ cls := "LandMap$Faces", name := "wholes", desc := "([I[I)I" } : Jvm.MethodName)) ∈ lw_all := lw_g (lw_at lw_m7 52 rfl) rfl
theorem q1670 : (Jvm.Cond.instanceMethod ({ cls := "LandMap$Faces", name := "wholes", desc := "([I[I)I" } : Jvm.MethodName)) ∈ lw_all := lw_g (lw_at lw_m7 53 rfl) rfl
theorem q1671 : (Jvm.Cond.selects "LandMap$Faces" ({ cls := "LandMap$Faces", name := "wholes", desc := "([I[I)I" } : Jvm.MethodName) ({ cls := "LandMap$Faces", name := "wholes", desc := "([I[I)I" } : Jvm.MethodName)) ∈ lw_all := lw_g (lw_at lw_m7 54 rfl) rfl
theorem q1672 : (Jvm.Cond.code ({ cls := "LandMap$Faces", name := "wholes", desc := "([I[I)I" } : Jvm.MethodName) prog_6_method_20_code (5 : Nat) (Option.some Jvm.ClassFile.FieldType.int)) ∈ lw_all := lw_g (lw_at lw_m7 55 rfl) rfl
theorem q1673 : (Jvm.Cond.methodLink "LandMap$Faces" (185 : Nat) ({ cls := "LandMap$Faces", name := "spread", desc := "(II[I[I)V" } : Jvm.MethodName)) ∈ lw_all := lw_g (lw_at lw_m7 56 rfl) rfl
theorem q1674 : (Jvm.Cond.privateMethod ({ cls := "LandMap$Faces", name := "spread", desc := "(II[I[I)V" } : Jvm.MethodName)) ∈ lw_tbl := lw_at lw_m7 57 rfl
theorem q1675 : (Jvm.Cond.instanceMethod ({ cls := "LandMap$Faces", name := "spread", desc := "(II[I[I)V" } : Jvm.MethodName)) ∈ lw_all := lw_g (lw_at lw_m7 58 rfl) rfl
theorem q1676 : (Jvm.Cond.code ({ cls := "LandMap$Faces", name := "spread", desc := "(II[I[I)V" } : Jvm.MethodName) prog_6_method_21_code (11 : Nat) (Option.none : Option Jvm.ClassFile.FieldType)) ∈ lw_all := lw_g (lw_at lw_m7 59 rfl) rfl
theorem q1677 : (Jvm.Cond.methodLink "LandMap" (208 : Nat) ({ cls := "LandMap$Feature", name := "places", desc := "()I" } : Jvm.MethodName)) ∈ lw_all := lw_g (lw_at lw_m7 60 rfl) rfl
theorem q1678 : (Jvm.Cond.instanceMethod ({ cls := "LandMap$Feature", name := "places", desc := "()I" } : Jvm.MethodName)) ∈ lw_all := lw_g (lw_at lw_m7 61 rfl) rfl
theorem q1679 : (Jvm.Cond.selects "LandMap$Feature" ({ cls := "LandMap$Feature", name := "places", desc := "()I" } : Jvm.MethodName) ({ cls := "LandMap$Feature", name := "places", desc := "()I" } : Jvm.MethodName)) ∈ lw_all := lw_g (lw_at lw_m7 62 rfl) rfl
theorem q1680 : (Jvm.Cond.code ({ cls := "LandMap$Feature", name := "places", desc := "()I" } : Jvm.MethodName) prog_7_method_3_code (1 : Nat) (Option.some Jvm.ClassFile.FieldType.int)) ∈ lw_all := lw_g (lw_at lw_m7 63 rfl) rfl
theorem q1681 : (Jvm.Cond.constant "LandMap" (216 : Nat) (60000 : Int32)) ∈ lw_all := lw_g (lw_at lw_m7 64 rfl) rfl
theorem q1682 : (Jvm.Cond.methodLink "LandMap" (217 : Nat) ({ cls := "LandMap$Layer", name := "copy", desc := "(I)LLandMap$Layer;" } : Jvm.MethodName)) ∈ lw_all := lw_g (lw_at lw_m7 65 rfl) rfl
theorem q1683 : (Jvm.Cond.instanceMethod ({ cls := "LandMap$Layer", name := "copy", desc := "(I)LLandMap$Layer;" } : Jvm.MethodName)) ∈ lw_all := lw_g (lw_at lw_m7 66 rfl) rfl
theorem q1684 : (Jvm.Cond.selects "LandMap$Layer" ({ cls := "LandMap$Layer", name := "copy", desc := "(I)LLandMap$Layer;" } : Jvm.MethodName) ({ cls := "LandMap$Layer", name := "copy", desc := "(I)LLandMap$Layer;" } : Jvm.MethodName)) ∈ lw_all := lw_g (lw_at lw_m7 67 rfl) rfl
theorem q1685 : (Jvm.Cond.code ({ cls := "LandMap$Layer", name := "copy", desc := "(I)LLandMap$Layer;" } : Jvm.MethodName) prog_12_method_2_code (4 : Nat) (Option.some (Jvm.ClassFile.FieldType.object "LandMap$Layer"))) ∈ lw_all := lw_g (lw_at lw_m7 68 rfl) rfl
theorem q1686 : (Jvm.Cond.classLink "LandMap$Layer" (10 : Nat) "LandMap$Layer") ∈ lw_all := lw_g (lw_at lw_m7 69 rfl) rfl
theorem q1687 : (Jvm.Cond.methodLink "LandMap$Layer" (19 : Nat) ({ cls := "java/lang/Math", name := "max", desc := "(II)I" } : Jvm.MethodName)) ∈ lw_all := lw_g (lw_at lw_m7 70 rfl) rfl
theorem q1688 : (Jvm.Cond.methodLink "LandMap$Layer" (25 : Nat) ({ cls := "LandMap$Layer", name := "<init>", desc := "(I)V" } : Jvm.MethodName)) ∈ lw_all := lw_g (lw_at lw_m7 71 rfl) rfl
theorem q1689 : (Jvm.Cond.methodLink "LandMap" (221 : Nat) ({ cls := "LandMap$Layer", name := "add", desc := "(LLandMap$Feature;)V" } : Jvm.MethodName)) ∈ lw_all := lw_g (lw_at lw_m7 72 rfl) rfl
theorem q1690 : (Jvm.Cond.instanceMethod ({ cls := "LandMap$Layer", name := "add", desc := "(LLandMap$Feature;)V" } : Jvm.MethodName)) ∈ lw_all := lw_g (lw_at lw_m7 73 rfl) rfl
theorem q1691 : (Jvm.Cond.selects "LandMap$Layer" ({ cls := "LandMap$Layer", name := "add", desc := "(LLandMap$Feature;)V" } : Jvm.MethodName) ({ cls := "LandMap$Layer", name := "add", desc := "(LLandMap$Feature;)V" } : Jvm.MethodName)) ∈ lw_all := lw_g (lw_at lw_m7 74 rfl) rfl
theorem q1692 : (Jvm.Cond.code ({ cls := "LandMap$Layer", name := "add", desc := "(LLandMap$Feature;)V" } : Jvm.MethodName) prog_12_method_3_code (2 : Nat) (Option.none : Option Jvm.ClassFile.FieldType)) ∈ lw_all := lw_g (lw_at lw_m7 75 rfl) rfl
theorem q1693 : (Jvm.Cond.methodLink "LandMap" (225 : Nat) ({ cls := "LandMap", name := "change", desc := "(ILLandMap$Layer;)V" } : Jvm.MethodName)) ∈ lw_all := lw_g (lw_at lw_m7 76 rfl) rfl
theorem q1694 : (Jvm.Cond.privateMethod ({ cls := "LandMap", name := "change", desc := "(ILLandMap$Layer;)V" } : Jvm.MethodName)) ∈ lw_tbl := lw_at lw_m7 77 rfl
theorem q1695 : (Jvm.Cond.instanceMethod ({ cls := "LandMap", name := "change", desc := "(ILLandMap$Layer;)V" } : Jvm.MethodName)) ∈ lw_all := lw_g (lw_at lw_m7 78 rfl) rfl
theorem q1696 : (Jvm.Cond.code ({ cls := "LandMap", name := "change", desc := "(ILLandMap$Layer;)V" } : Jvm.MethodName) prog_1_method_8_code (3 : Nat) (Option.none : Option Jvm.ClassFile.FieldType)) ∈ lw_all := lw_g (lw_at lw_m7 79 rfl) rfl
theorem q1697 : (Jvm.Cond.methodLink "LandMap" (162 : Nat) ({ cls := "LandMap$State", name := "behind", desc := "(LLandMap$State;ILLandMap$Layer;)LLandMap$State;" } : Jvm.MethodName)) ∈ lw_all := lw_g (lw_at lw_m7 80 rfl) rfl
theorem q1698 : (Jvm.Cond.static ({ cls := "LandMap$State", name := "behind", desc := "(LLandMap$State;ILLandMap$Layer;)LLandMap$State;" } : Jvm.MethodName)) ∈ lw_all := lw_g (lw_at lw_m7 81 rfl) rfl
theorem q1699 : (Jvm.Cond.code ({ cls := "LandMap$State", name := "behind", desc := "(LLandMap$State;ILLandMap$Layer;)LLandMap$State;" } : Jvm.MethodName) prog_23_method_3_code (5 : Nat) (Option.some (Jvm.ClassFile.FieldType.object "LandMap$State"))) ∈ lw_all := lw_g (lw_at lw_m7 82 rfl) rfl
theorem q1700 : (Jvm.Cond.methodLink "LandMap" (169 : Nat) ({ cls := "java/lang/Math", name := "min", desc := "(II)I" } : Jvm.MethodName)) ∈ lw_all := lw_g (lw_at lw_m7 83 rfl) rfl
theorem q1701 : (Jvm.Cond.methodLink "LandMapLaw" (28 : Nat) ({ cls := "LandMap", name := "place", desc := "()I" } : Jvm.MethodName)) ∈ lw_all := lw_g (lw_at lw_m7 84 rfl) rfl
theorem q1702 : (Jvm.Cond.instanceMethod ({ cls := "LandMap", name := "place", desc := "()I" } : Jvm.MethodName)) ∈ lw_all := lw_g (lw_at lw_m7 85 rfl) rfl
theorem q1703 : (Jvm.Cond.selects "LandMap" ({ cls := "LandMap", name := "place", desc := "()I" } : Jvm.MethodName) ({ cls := "LandMap", name := "place", desc := "()I" } : Jvm.MethodName)) ∈ lw_all := lw_g (lw_at lw_m7 86 rfl) rfl
theorem q1704 : (Jvm.Cond.code ({ cls := "LandMap", name := "place", desc := "()I" } : Jvm.MethodName) prog_1_method_11_code (1 : Nat) (Option.some Jvm.ClassFile.FieldType.int)) ∈ lw_all := lw_g (lw_at lw_m7 87 rfl) rfl
theorem q1705 : (Jvm.Cond.methodLink "LandMapLaw" (33 : Nat) ({ cls := "LandMap", name := "rule", desc := "()I" } : Jvm.MethodName)) ∈ lw_all := lw_g (lw_at lw_m7 88 rfl) rfl
theorem q1706 : (Jvm.Cond.instanceMethod ({ cls := "LandMap", name := "rule", desc := "()I" } : Jvm.MethodName)) ∈ lw_all := lw_g (lw_at lw_m7 89 rfl) rfl
theorem q1707 : (Jvm.Cond.selects "LandMap" ({ cls := "LandMap", name := "rule", desc := "()I" } : Jvm.MethodName) ({ cls := "LandMap", name := "rule", desc := "()I" } : Jvm.MethodName)) ∈ lw_all := lw_g (lw_at lw_m7 90 rfl) rfl
theorem q1708 : (Jvm.Cond.code ({ cls := "LandMap", name := "rule", desc := "()I" } : Jvm.MethodName) prog_1_method_12_code (1 : Nat) (Option.some Jvm.ClassFile.FieldType.int)) ∈ lw_all := lw_g (lw_at lw_m7 91 rfl) rfl
theorem q1709 : (Jvm.Cond.methodLink "LandMapLaw" (37 : Nat) ({ cls := "LandMap", name := "broken", desc := "()I" } : Jvm.MethodName)) ∈ lw_all := lw_g (lw_at lw_m7 92 rfl) rfl
theorem q1710 : (Jvm.Cond.instanceMethod ({ cls := "LandMap", name := "broken", desc := "()I" } : Jvm.MethodName)) ∈ lw_all := lw_g (lw_at lw_m7 93 rfl) rfl
theorem q1711 : (Jvm.Cond.selects "LandMap" ({ cls := "LandMap", name := "broken", desc := "()I" } : Jvm.MethodName) ({ cls := "LandMap", name := "broken", desc := "()I" } : Jvm.MethodName)) ∈ lw_all := lw_g (lw_at lw_m7 94 rfl) rfl
theorem q1712 : (Jvm.Cond.code ({ cls := "LandMap", name := "broken", desc := "()I" } : Jvm.MethodName) prog_1_method_13_code (1 : Nat) (Option.some Jvm.ClassFile.FieldType.int)) ∈ lw_all := lw_g (lw_at lw_m7 95 rfl) rfl
theorem q1713 : (Jvm.Cond.methodLink "LandMapLaw" (41 : Nat) ({ cls := "LandMap", name := "size", desc := "(II)I" } : Jvm.MethodName)) ∈ lw_all := lw_g (lw_at lw_m7 96 rfl) rfl
theorem q1714 : (Jvm.Cond.instanceMethod ({ cls := "LandMap", name := "size", desc := "(II)I" } : Jvm.MethodName)) ∈ lw_all := lw_g (lw_at lw_m7 97 rfl) rfl
theorem q1715 : (Jvm.Cond.selects "LandMap" ({ cls := "LandMap", name := "size", desc := "(II)I" } : Jvm.MethodName) ({ cls := "LandMap", name := "size", desc := "(II)I" } : Jvm.MethodName)) ∈ lw_all := lw_g (lw_at lw_m7 98 rfl) rfl
theorem q1716 : (Jvm.Cond.code ({ cls := "LandMap", name := "size", desc := "(II)I" } : Jvm.MethodName) prog_1_method_14_code (3 : Nat) (Option.some Jvm.ClassFile.FieldType.int)) ∈ lw_all := lw_g (lw_at lw_m7 99 rfl) rfl
theorem q1717 : (Jvm.Cond.methodLink "LandMap" (232 : Nat) ({ cls := "LandMap$Layer", name := "there", desc := "()I" } : Jvm.MethodName)) ∈ lw_all := lw_g (lw_at lw_m7 100 rfl) rfl
theorem q1718 : (Jvm.Cond.instanceMethod ({ cls := "LandMap$Layer", name := "there", desc := "()I" } : Jvm.MethodName)) ∈ lw_all := lw_g (lw_at lw_m7 101 rfl) rfl
theorem q1719 : (Jvm.Cond.selects "LandMap$Layer" ({ cls := "LandMap$Layer", name := "there", desc := "()I" } : Jvm.MethodName) ({ cls := "LandMap$Layer", name := "there", desc := "()I" } : Jvm.MethodName)) ∈ lw_all := lw_g (lw_at lw_m7 102 rfl) rfl
theorem q1720 : (Jvm.Cond.code ({ cls := "LandMap$Layer", name := "there", desc := "()I" } : Jvm.MethodName) prog_12_method_6_code (3 : Nat) (Option.some Jvm.ClassFile.FieldType.int)) ∈ lw_all := lw_g (lw_at lw_m7 103 rfl) rfl
theorem q1721 : (Jvm.Cond.methodLink "LandMapLaw" (46 : Nat) ({ cls := "LandMap", name := "feature", desc := "(III)I" } : Jvm.MethodName)) ∈ lw_all := lw_g (lw_at lw_m7 104 rfl) rfl
theorem q1722 : (Jvm.Cond.instanceMethod ({ cls := "LandMap", name := "feature", desc := "(III)I" } : Jvm.MethodName)) ∈ lw_all := lw_g (lw_at lw_m7 105 rfl) rfl
theorem q1723 : (Jvm.Cond.selects "LandMap" ({ cls := "LandMap", name := "feature", desc := "(III)I" } : Jvm.MethodName) ({ cls := "LandMap", name := "feature", desc := "(III)I" } : Jvm.MethodName)) ∈ lw_all := lw_g (lw_at lw_m7 106 rfl) rfl
theorem q1724 : (Jvm.Cond.code ({ cls := "LandMap", name := "feature", desc := "(III)I" } : Jvm.MethodName) prog_1_method_15_code (5 : Nat) (Option.some Jvm.ClassFile.FieldType.int)) ∈ lw_all := lw_g (lw_at lw_m7 107 rfl) rfl
theorem q1725 : (Jvm.Cond.methodLink "LandMap" (235 : Nat) ({ cls := "LandMap", name := "find", desc := "(II)LLandMap$Feature;" } : Jvm.MethodName)) ∈ lw_all := lw_g (lw_at lw_m7 108 rfl) rfl
theorem q1726 : (Jvm.Cond.privateMethod ({ cls := "LandMap", name := "find", desc := "(II)LLandMap$Feature;" } : Jvm.MethodName)) ∈ lw_tbl := lw_at lw_m7 109 rfl
theorem q1727 : (Jvm.Cond.instanceMethod ({ cls := "LandMap", name := "find", desc := "(II)LLandMap$Feature;" } : Jvm.MethodName)) ∈ lw_all := lw_g (lw_at lw_m7 110 rfl) rfl
theorem q1728 : (Jvm.Cond.code ({ cls := "LandMap", name := "find", desc := "(II)LLandMap$Feature;" } : Jvm.MethodName) prog_1_method_7_code (3 : Nat) (Option.some (Jvm.ClassFile.FieldType.object "LandMap$Feature"))) ∈ lw_all := lw_g (lw_at lw_m7 111 rfl) rfl
theorem q1729 : (Jvm.Cond.methodLink "LandMap" (156 : Nat) ({ cls := "LandMap$Layer", name := "get", desc := "(I)LLandMap$Feature;" } : Jvm.MethodName)) ∈ lw_all := lw_g (lw_at lw_m7 112 rfl) rfl
theorem q1730 : (Jvm.Cond.instanceMethod ({ cls := "LandMap$Layer", name := "get", desc := "(I)LLandMap$Feature;" } : Jvm.MethodName)) ∈ lw_all := lw_g (lw_at lw_m7 113 rfl) rfl
theorem q1731 : (Jvm.Cond.selects "LandMap$Layer" ({ cls := "LandMap$Layer", name := "get", desc := "(I)LLandMap$Feature;" } : Jvm.MethodName) ({ cls := "LandMap$Layer", name := "get", desc := "(I)LLandMap$Feature;" } : Jvm.MethodName)) ∈ lw_all := lw_g (lw_at lw_m7 114 rfl) rfl
theorem q1732 : (Jvm.Cond.code ({ cls := "LandMap$Layer", name := "get", desc := "(I)LLandMap$Feature;" } : Jvm.MethodName) prog_12_method_4_code (2 : Nat) (Option.some (Jvm.ClassFile.FieldType.object "LandMap$Feature"))) ∈ lw_all := lw_g (lw_at lw_m7 115 rfl) rfl
theorem q1733 : (Jvm.Cond.constant "LandMap" (239 : Nat) (-1000000014 : Int32)) ∈ lw_all := lw_g (lw_at lw_m7 116 rfl) rfl
theorem q1734 : (Jvm.Cond.methodLink "LandMap" (246 : Nat) ({ cls := "LandMap$Feature", name := "rows", desc := "()I" } : Jvm.MethodName)) ∈ lw_all := lw_g (lw_at lw_m7 117 rfl) rfl
theorem q1735 : (Jvm.Cond.methodLink "LandMapLaw" (51 : Nat) ({ cls := "LandMap", name := "at", desc := "(IIIII)I" } : Jvm.MethodName)) ∈ lw_all := lw_g (lw_at lw_m7 118 rfl) rfl
theorem q1736 : (Jvm.Cond.instanceMethod ({ cls := "LandMap", name := "at", desc := "(IIIII)I" } : Jvm.MethodName)) ∈ lw_all := lw_g (lw_at lw_m7 119 rfl) rfl
theorem q1737 : (Jvm.Cond.selects "LandMap" ({ cls := "LandMap", name := "at", desc := "(IIIII)I" } : Jvm.MethodName) ({ cls := "LandMap", name := "at", desc := "(IIIII)I" } : Jvm.MethodName)) ∈ lw_all := lw_g (lw_at lw_m7 120 rfl) rfl
theorem q1738 : (Jvm.Cond.code ({ cls := "LandMap", name := "at", desc := "(IIIII)I" } : Jvm.MethodName) prog_1_method_16_code (7 : Nat) (Option.some Jvm.ClassFile.FieldType.int)) ∈ lw_all := lw_g (lw_at lw_m7 121 rfl) rfl
theorem q1739 : (Jvm.Cond.methodLink "LandMap" (249 : Nat) ({ cls := "LandMap$Feature", name := "hasPlace", desc := "(II)Z" } : Jvm.MethodName)) ∈ lw_all := lw_g (lw_at lw_m7 122 rfl) rfl
theorem q1740 : (Jvm.Cond.instanceMethod ({ cls := "LandMap$Feature", name := "hasPlace", desc := "(II)Z" } : Jvm.MethodName)) ∈ lw_all := lw_g (lw_at lw_m7 123 rfl) rfl
theorem q1741 : (Jvm.Cond.selects "LandMap$Feature" ({ cls := "LandMap$Feature", name := "hasPlace", desc := "(II)Z" } : Jvm.MethodName) ({ cls := "LandMap$Feature", name := "hasPlace", desc := "(II)Z" } : Jvm.MethodName)) ∈ lw_all := lw_g (lw_at lw_m7 124 rfl) rfl
theorem q1742 : (Jvm.Cond.code ({ cls := "LandMap$Feature", name := "hasPlace", desc := "(II)Z" } : Jvm.MethodName) prog_7_method_5_code (3 : Nat) (Option.some Jvm.ClassFile.FieldType.boolean)) ∈ lw_all := lw_g (lw_at lw_m7 125 rfl) rfl
theorem q1743 : (Jvm.Cond.methodLink "LandMap$Feature" (28 : Nat) ({ cls := "LandMap$Feature", name := "rows", desc := "()I" } : Jvm.MethodName)) ∈ lw_all := lw_g (lw_at lw_m7 126 rfl) rfl
theorem q1744 : (Jvm.Cond.methodLink "LandMap$Feature" (32 : Nat) ({ cls := "LandMap$Feature", name := "rowLength", desc := "(I)I" } : Jvm.MethodName)) ∈ lw_all := lw_g (lw_at lw_m7 127 rfl) rfl
theorem q1745 : (Jvm.Cond.instanceMethod ({ cls := "LandMap$Feature", name := "rowLength", desc := "(I)I" } : Jvm.MethodName)) ∈ lw_all := lw_g (lw_at lw_m7 128 rfl) rfl
theorem q1746 : (Jvm.Cond.selects "LandMap$Feature" ({ cls := "LandMap$Feature", name := "rowLength", desc := "(I)I" } : Jvm.MethodName) ({ cls := "LandMap$Feature", name := "rowLength", desc := "(I)I" } : Jvm.MethodName)) ∈ lw_all := lw_g (lw_at lw_m7 129 rfl) rfl
theorem q1747 : (Jvm.Cond.code ({ cls := "LandMap$Feature", name := "rowLength", desc := "(I)I" } : Jvm.MethodName) prog_7_method_4_code (2 : Nat) (Option.some Jvm.ClassFile.FieldType.int)) ∈ lw_all := lw_g (lw_at lw_m7 130 rfl) rfl
theorem q1748 : (Jvm.Cond.constant "LandMap" (253 : Nat) (1000000 : Int32)) ∈ lw_all := lw_g (lw_at lw_m7 131 rfl) rfl
theorem q1749 : (Jvm.Cond.methodLink "LandMapLaw" (55 : Nat) ({ cls := "LandMap", name := "area2", desc := "(II)J" } : Jvm.MethodName)) ∈ lw_all := lw_g (lw_at lw_m7 132 rfl) rfl
theorem q1750 : (Jvm.Cond.instanceMethod ({ cls := "LandMap", name := "area2", desc := "(II)J" } : Jvm.MethodName)) ∈ lw_all := lw_g (lw_at lw_m7 133 rfl) rfl
theorem q1751 : (Jvm.Cond.selects "LandMap" ({ cls := "LandMap", name := "area2", desc := "(II)J" } : Jvm.MethodName) ({ cls := "LandMap", name := "area2", desc := "(II)J" } : Jvm.MethodName)) ∈ lw_all := lw_g (lw_at lw_m7 134 rfl) rfl
theorem q1752 : (Jvm.Cond.code ({ cls := "LandMap", name := "area2", desc := "(II)J" } : Jvm.MethodName) prog_1_method_17_code (4 : Nat) (Option.some Jvm.ClassFile.FieldType.long)) ∈ lw_all := lw_g (lw_at lw_m7 135 rfl) rfl
theorem q1753 : (Jvm.Cond.methodLink "LandMap" (263 : Nat) ({ cls := "LandMap$Feature", name := "fullArea2", desc := "()J" } : Jvm.MethodName)) ∈ lw_all := lw_g (lw_at lw_m7 136 rfl) rfl
theorem q1754 : (Jvm.Cond.instanceMethod ({ cls := "LandMap$Feature", name := "fullArea2", desc := "()J" } : Jvm.MethodName)) ∈ lw_all := lw_g (lw_at lw_m7 137 rfl) rfl
theorem q1755 : (Jvm.Cond.selects "LandMap$Feature" ({ cls := "LandMap$Feature", name := "fullArea2", desc := "()J" } : Jvm.MethodName) ({ cls := "LandMap$Feature", name := "fullArea2", desc := "()J" } : Jvm.MethodName)) ∈ lw_all := lw_g (lw_at lw_m7 138 rfl) rfl
theorem q1756 : (Jvm.Cond.code ({ cls := "LandMap$Feature", name := "fullArea2", desc := "()J" } : Jvm.MethodName) prog_7_method_12_code (4 : Nat) (Option.some Jvm.ClassFile.FieldType.long)) ∈ lw_all := lw_g (lw_at lw_m7 139 rfl) rfl
theorem q1757 : (Jvm.Cond.methodLink "LandMap$Feature" (53 : Nat) ({ cls := "LandMap$Feature", name := "ringArea2", desc := "(I)J" } : Jvm.MethodName)) ∈ lw_all := lw_g (lw_at lw_m7 140 rfl) rfl
theorem q1758 : (Jvm.Cond.instanceMethod ({ cls := "LandMap$Feature", name := "ringArea2", desc := "(I)J" } : Jvm.MethodName)) ∈ lw_all := lw_g (lw_at lw_m7 141 rfl) rfl
theorem q1759 : (Jvm.Cond.selects "LandMap$Feature" ({ cls := "LandMap$Feature", name := "ringArea2", desc := "(I)J" } : Jvm.MethodName) ({ cls := "LandMap$Feature", name := "ringArea2", desc := "(I)J" } : Jvm.MethodName)) ∈ lw_all := lw_g (lw_at lw_m7 142 rfl) rfl
theorem q1760 : (Jvm.Cond.code ({ cls := "LandMap$Feature", name := "ringArea2", desc := "(I)J" } : Jvm.MethodName) prog_7_method_11_code (5 : Nat) (Option.some Jvm.ClassFile.FieldType.long)) ∈ lw_all := lw_g (lw_at lw_m7 143 rfl) rfl
theorem q1761 : (Jvm.Cond.methodLink "LandMap$Feature" (57 : Nat) ({ cls := "java/lang/Math", name := "abs", desc := "(J)J" } : Jvm.MethodName)) ∈ lw_all := lw_g (lw_at lw_m7 144 rfl) rfl
theorem q1762 : (Jvm.Cond.static ({ cls := "java/lang/Math", name := "abs", desc := "(J)J" } : Jvm.MethodName)) ∈ lw_all := lw_g (lw_at lw_m7 145 rfl) rfl
theorem q1763 : (Jvm.Cond.code ({ cls := "java/lang/Math", name := "abs", desc := "(J)J" } : Jvm.MethodName) prog_56_method_61_code (2 : Nat) (Option.some Jvm.ClassFile.FieldType.long)) ∈ lw_all := lw_g (lw_at lw_m7 146 rfl) rfl
theorem q1764 : (Jvm.Cond.methodLink "LandMapLaw" (60 : Nat) ({ cls := "LandMap", name := "length", desc := "(II)J" } : Jvm.MethodName)) ∈ lw_all := lw_g (lw_at lw_m7 147 rfl) rfl
theorem q1765 : (Jvm.Cond.instanceMethod ({ cls := "LandMap", name := "length", desc := "(II)J" } : Jvm.MethodName)) ∈ lw_all := lw_g (lw_at lw_m7 148 rfl) rfl
theorem q1766 : (Jvm.Cond.selects "LandMap" ({ cls := "LandMap", name := "length", desc := "(II)J" } : Jvm.MethodName) ({ cls := "LandMap", name := "length", desc := "(II)J" } : Jvm.MethodName)) ∈ lw_all := lw_g (lw_at lw_m7 149 rfl) rfl
theorem q1767 : (Jvm.Cond.code ({ cls := "LandMap", name := "length", desc := "(II)J" } : Jvm.MethodName) prog_1_method_18_code (4 : Nat) (Option.some Jvm.ClassFile.FieldType.long)) ∈ lw_all := lw_g (lw_at lw_m7 150 rfl) rfl
theorem q1768 : (Jvm.Cond.constantLong "LandMap" (267 : Nat) (-14 : Int64)) ∈ lw_all := lw_g (lw_at lw_m7 151 rfl) rfl
theorem q1769 : (Jvm.Cond.methodLink "LandMap" (269 : Nat) ({ cls := "LandMap$Feature", name := "length", desc := "()J" } : Jvm.MethodName)) ∈ lw_all := lw_g (lw_at lw_m7 152 rfl) rfl
theorem q1770 : (Jvm.Cond.instanceMethod ({ cls := "LandMap$Feature", name := "length", desc := "()J" } : Jvm.MethodName)) ∈ lw_all := lw_g (lw_at lw_m7 153 rfl) rfl
theorem q1771 : (Jvm.Cond.selects "LandMap$Feature" ({ cls := "LandMap$Feature", name := "length", desc := "()J" } : Jvm.MethodName) ({ cls := "LandMap$Feature", name := "length", desc := "()J" } : Jvm.MethodName)) ∈ lw_all := lw_g (lw_at lw_m7 154 rfl) rfl
theorem q1772 : (Jvm.Cond.code ({ cls := "LandMap$Feature", name := "length", desc := "()J" } : Jvm.MethodName) prog_7_method_13_code (5 : Nat) (Option.some Jvm.ClassFile.FieldType.long)) ∈ lw_all := lw_g (lw_at lw_m7 155 rfl) rfl
theorem q1773 : (Jvm.Cond.methodLink "LandMap$Feature" (63 : Nat) ({ cls := "LandMap$Exact", name := "length", desc := "(II)J" } : Jvm.MethodName)) ∈ lw_all := lw_g (lw_at lw_m7 156 rfl) rfl
theorem q1774 : (Jvm.Cond.static ({ cls := "LandMap$Exact", name := "length", desc := "(II)J" } : Jvm.MethodName)) ∈ lw_all := lw_g (lw_at lw_m7 157 rfl) rfl
theorem q1775 : (Jvm.Cond.code ({ cls := "LandMap$Exact", name := "length", desc := "(II)J" } : Jvm.MethodName) prog_5_method_6_code (8 : Nat) (Option.some Jvm.ClassFile.FieldType.long)) ∈ lw_all := lw_g (lw_at lw_m7 158 rfl) rfl
theorem q1776 : (Jvm.Cond.constantLong "LandMap$Exact" (17 : Nat) (2097152 : Int64)) ∈ lw_all := lw_g (lw_at lw_m7 159 rfl) rfl
theorem q1777 : (Jvm.Cond.methodLink "LandMapLaw" (64 : Nat) ({ cls := "LandMap", name := "spot", desc := "(II)I" } : Jvm.MethodName)) ∈ lw_all := lw_g (lw_at lw_m7 160 rfl) rfl
theorem q1778 : (Jvm.Cond.instanceMethod ({ cls := "LandMap", name := "spot", desc := "(II)I" } : Jvm.MethodName)) ∈ lw_all := lw_g (lw_at lw_m7 161 rfl) rfl
theorem q1779 : (Jvm.Cond.selects "LandMap" ({ cls := "LandMap", name := "spot", desc := "(II)I" } : Jvm.MethodName) ({ cls := "LandMap", name := "spot", desc := "(II)I" } : Jvm.MethodName)) ∈ lw_all := lw_g (lw_at lw_m7 162 rfl) rfl
theorem q1780 : (Jvm.Cond.code ({ cls := "LandMap", name := "spot", desc := "(II)I" } : Jvm.MethodName) prog_1_method_20_code (3 : Nat) (Option.some Jvm.ClassFile.FieldType.int)) ∈ lw_all := lw_g (lw_at lw_m7 163 rfl) rfl
theorem q1781 : (Jvm.Cond.methodLink "LandMap" (274 : Nat) ({ cls := "LandMap", name := "isInBounds", desc := "(II)Z" } : Jvm.MethodName)) ∈ lw_all := lw_g (lw_at lw_m7 164 rfl) rfl
theorem q1782 : (Jvm.Cond.static ({ cls := "LandMap", name := "isInBounds", desc := "(II)Z" } : Jvm.MethodName)) ∈ lw_all := lw_g (lw_at lw_m7 165 rfl) rfl
theorem q1783 : (Jvm.Cond.code ({ cls := "LandMap", name := "isInBounds", desc := "(II)Z" } : Jvm.MethodName) prog_1_method_19_code (2 : Nat) (Option.some Jvm.ClassFile.FieldType.boolean)) ∈ lw_all := lw_g (lw_at lw_m7 166 rfl) rfl
theorem q1784 : (Jvm.Cond.constant "LandMap" (272 : Nat) (-500000 : Int32)) ∈ lw_all := lw_g (lw_at lw_m7 167 rfl) rfl
theorem q1785 : (Jvm.Cond.constant "LandMap" (273 : Nat) (500000 : Int32)) ∈ lw_all := lw_g (lw_at lw_m7 168 rfl) rfl
theorem q1786 : (Jvm.Cond.methodLink "LandMapLaw" (68 : Nat) ({ cls := "LandMap", name := "move", desc := "(IIII)I" } : Jvm.MethodName)) ∈ lw_all := lw_g (lw_at lw_m7 169 rfl) rfl
theorem q1787 : (Jvm.Cond.instanceMethod ({ cls := "LandMap", name := "move", desc := "(IIII)I" } : Jvm.MethodName)) ∈ lw_all := lw_g (lw_at lw_m7 170 rfl) rfl
theorem q1788 : (Jvm.Cond.selects "LandMap" ({ cls := "LandMap", name := "move", desc := "(IIII)I" } : Jvm.MethodName) ({ cls := "LandMap", name := "move", desc := "(IIII)I" } : Jvm.MethodName)) ∈ lw_all := lw_g (lw_at lw_m7 171 rfl) rfl
theorem q1789 : (Jvm.Cond.code ({ cls := "LandMap", name := "move", desc := "(IIII)I" } : Jvm.MethodName) prog_1_method_22_code (7 : Nat) (Option.some Jvm.ClassFile.FieldType.int)) ∈ lw_all := lw_g (lw_at lw_m7 172 rfl) rfl
theorem q1790 : (Jvm.Cond.methodLink "LandMap" (277 : Nat) ({ cls := "LandMap", name := "usedSpots", desc := "()I" } : Jvm.MethodName)) ∈ lw_all := lw_g (lw_at lw_m7 173 rfl) rfl
theorem q1791 : (Jvm.Cond.privateMethod ({ cls := "LandMap", name := "usedSpots", desc := "()I" } : Jvm.MethodName)) ∈ lw_tbl := lw_at lw_m7 174 rfl
theorem q1792 : (Jvm.Cond.instanceMethod ({ cls := "LandMap", name := "usedSpots", desc := "()I" } : Jvm.MethodName)) ∈ lw_all := lw_g (lw_at lw_m7 175 rfl) rfl
theorem q1793 : (Jvm.Cond.code ({ cls := "LandMap", name := "usedSpots", desc := "()I" } : Jvm.MethodName) prog_1_method_21_code (2 : Nat) (Option.some Jvm.ClassFile.FieldType.int)) ∈ lw_all := lw_g (lw_at lw_m7 176 rfl) rfl
theorem q1794 : (Jvm.Cond.methodLink "LandMap" (280 : Nat) ({ cls := "LandMap$Feature", name := "brokenWith", desc := "(IIIILLandMap$Rules;LLandMap$Laid;)I" } : Jvm.MethodName)) ∈ lw_all := lw_g (lw_at lw_m7 177 rfl) rfl
theorem q1795 : (Jvm.Cond.instanceMethod ({ cls := "LandMap$Feature", name := "brokenWith", desc := "(IIIILLandMap$Rules;LLandMap$Laid;)I" } : Jvm.MethodName)) ∈ lw_all := lw_g (lw_at lw_m7 178 rfl) rfl
theorem q1796 : (Jvm.Cond.selects "LandMap$Feature" ({ cls := "LandMap$Feature", name := "brokenWith", desc := "(IIIILLandMap$Rules;LLandMap$Laid;)I" } : Jvm.MethodName) ({ cls := "LandMap$Feature", name := "brokenWith", desc := "(IIIILLandMap$Rules;LLandMap$Laid;)I" } : Jvm.MethodName)) ∈ lw_all := lw_g (lw_at lw_m7 179 rfl) rfl
theorem q1797 : (Jvm.Cond.code ({ cls := "LandMap$Feature", name := "brokenWith", desc := "(IIIILLandMap$Rules;LLandMap$Laid;)I" } : Jvm.MethodName) prog_7_method_9_code (10 : Nat) (Option.some Jvm.ClassFile.FieldType.int)) ∈ lw_all := lw_g (lw_at lw_m7 180 rfl) rfl
theorem q1798 : (Jvm.Cond.methodLink "LandMap$Feature" (43 : Nat) ({ cls := "LandMap$Feature", name := "setPlace", desc := "(IIII)V" } : Jvm.MethodName)) ∈ lw_all := lw_g (lw_at lw_m7 181 rfl) rfl
theorem q1799 : (Jvm.Cond.privateMethod ({ cls := "LandMap$Feature", name := "setPlace", desc := "(IIII)V" } : Jvm.MethodName)) ∈ lw_tbl := lw_at lw_m7 182 rfl
theorem q1800 : (Jvm.Cond.instanceMethod ({ cls := "LandMap$Feature", name := "setPlace", desc := "(IIII)V" } : Jvm.MethodName)) ∈ lw_all := lw_g (lw_at lw_m7 183 rfl) rfl
theorem q1801 : (Jvm.Cond.code ({ cls := "LandMap$Feature", name := "setPlace", desc := "(IIII)V" } : Jvm.MethodName) prog_7_method_7_code (8 : Nat) (Option.none : Option Jvm.ClassFile.FieldType)) ∈ lw_all := lw_g (lw_at lw_m7 184 rfl) rfl
theorem q1802 : (Jvm.Cond.methodLink "LandMap$Feature" (47 : Nat) ({ cls := "LandMap$Rules", name := "broken", desc := "(LLandMap$Feature;LLandMap$Laid;)I" } : Jvm.MethodName)) ∈ lw_all := lw_g (lw_at lw_m7 185 rfl) rfl
theorem q1803 : (Jvm.Cond.methodLink "LandMap" (284 : Nat) ({ cls := "LandMap$Feature", name := "moved", desc := "(IIII)LLandMap$Feature;" } : Jvm.MethodName)) ∈ lw_all := lw_g (lw_at lw_m7 186 rfl) rfl
theorem q1804 : (Jvm.Cond.instanceMethod ({ cls := "LandMap$Feature", name := "moved", desc := "(IIII)LLandMap$Feature;" } : Jvm.MethodName)) ∈ lw_all := lw_g (lw_at lw_m7 187 rfl) rfl
theorem q1805 : (Jvm.Cond.selects "LandMap$Feature" ({ cls := "LandMap$Feature", name := "moved", desc := "(IIII)LLandMap$Feature;" } : Jvm.MethodName) ({ cls := "LandMap$Feature", name := "moved", desc := "(IIII)LLandMap$Feature;" } : Jvm.MethodName)) ∈ lw_all := lw_g (lw_at lw_m7 188 rfl) rfl
theorem q1806 : (Jvm.Cond.code ({ cls := "LandMap$Feature", name := "moved", desc := "(IIII)LLandMap$Feature;" } : Jvm.MethodName) prog_7_method_8_code (6 : Nat) (Option.some (Jvm.ClassFile.FieldType.object "LandMap$Feature"))) ∈ lw_all := lw_g (lw_at lw_m7 189 rfl) rfl
theorem q1807 : (Jvm.Cond.classLink "LandMap$Feature" (10 : Nat) "LandMap$Feature") ∈ lw_all := lw_g (lw_at lw_m7 190 rfl) rfl
theorem q1808 : (Jvm.Cond.methodLink "LandMap$Feature" (39 : Nat) ({ cls := "LandMap$Feature", name := "copy", desc := "([II)[I" } : Jvm.MethodName)) ∈ lw_all := lw_g (lw_at lw_m7 191 rfl) rfl
theorem q1809 : (Jvm.Cond.methodLink "LandMap$Feature" (36 : Nat) ({ cls := "LandMap$Feature", name := "<init>", desc := "(II[I[I[I)V" } : Jvm.MethodName)) ∈ lw_all := lw_g (lw_at lw_m7 192 rfl) rfl
theorem q1810 : (Jvm.Cond.methodLink "LandMap" (288 : Nat) ({ cls := "LandMap$Layer", name := "with", desc := "(ILLandMap$Feature;)LLandMap$Layer;" } : Jvm.MethodName)) ∈ lw_all := lw_g (lw_at lw_m7 193 rfl) rfl
theorem q1811 : (Jvm.Cond.instanceMethod ({ cls := "LandMap$Layer", name := "with", desc := "(ILLandMap$Feature;)LLandMap$Layer;" } : Jvm.MethodName)) ∈ lw_all := lw_g (lw_at lw_m7 194 rfl) rfl
theorem q1812 : (Jvm.Cond.selects "LandMap$Layer" ({ cls := "LandMap$Layer", name := "with", desc := "(ILLandMap$Feature;)LLandMap$Layer;" } : Jvm.MethodName) ({ cls := "LandMap$Layer", name := "with", desc := "(ILLandMap$Feature;)LLandMap$Layer;" } : Jvm.MethodName)) ∈ lw_all := lw_g (lw_at lw_m7 195 rfl) rfl
theorem q1813 : (Jvm.Cond.code ({ cls := "LandMap$Layer", name := "with", desc := "(ILLandMap$Feature;)LLandMap$Layer;" } : Jvm.MethodName) prog_12_method_5_code (4 : Nat) (Option.some (Jvm.ClassFile.FieldType.object "LandMap$Layer"))) ∈ lw_all := lw_g (lw_at lw_m7 196 rfl) rfl
theorem q1814 : (Jvm.Cond.methodLink "LandMap$Layer" (28 : Nat) ({ cls := "LandMap$Layer", name := "copy", desc := "(I)LLandMap$Layer;" } : Jvm.MethodName)) ∈ lw_all := lw_g (lw_at lw_m7 197 rfl) rfl
theorem q1815 : (Jvm.Cond.methodLink "LandMapLaw" (73 : Nat) ({ cls := "LandMap", name := "drop", desc := "(II)I" } : Jvm.MethodName)) ∈ lw_all := lw_g (lw_at lw_m7 198 rfl) rfl
theorem q1816 : (Jvm.Cond.instanceMethod ({ cls := "LandMap", name := "drop", desc := "(II)I" } : Jvm.MethodName)) ∈ lw_all := lw_g (lw_at lw_m7 199 rfl) rfl
theorem q1817 : (Jvm.Cond.selects "LandMap" ({ cls := "LandMap", name := "drop", desc := "(II)I" } : Jvm.MethodName) ({ cls := "LandMap", name := "drop", desc := "(II)I" } : Jvm.MethodName)) ∈ lw_all := lw_g (lw_at lw_m7 200 rfl) rfl
theorem q1818 : (Jvm.Cond.code ({ cls := "LandMap", name := "drop", desc := "(II)I" } : Jvm.MethodName) prog_1_method_23_code (3 : Nat) (Option.some Jvm.ClassFile.FieldType.int)) ∈ lw_all := lw_g (lw_at lw_m7 201 rfl) rfl
theorem q1819 : (Jvm.Cond.methodLink "LandMapLaw" (77 : Nat) ({ cls := "LandMap", name := "revalue", desc := "(III)I" } : Jvm.MethodName)) ∈ lw_all := lw_g (lw_at lw_m7 202 rfl) rfl
theorem q1820 : (Jvm.Cond.instanceMethod ({ cls := "LandMap", name := "revalue", desc := "(III)I" } : Jvm.MethodName)) ∈ lw_all := lw_g (lw_at lw_m7 203 rfl) rfl
theorem q1821 : (Jvm.Cond.selects "LandMap" ({ cls := "LandMap", name := "revalue", desc := "(III)I" } : Jvm.MethodName) ({ cls := "LandMap", name := "revalue", desc := "(III)I" } : Jvm.MethodName)) ∈ lw_all := lw_g (lw_at lw_m7 204 rfl) rfl
theorem q1822 : (Jvm.Cond.code ({ cls := "LandMap", name := "revalue", desc := "(III)I" } : Jvm.MethodName) prog_1_method_24_code (5 : Nat) (Option.some Jvm.ClassFile.FieldType.int)) ∈ lw_all := lw_g (lw_at lw_m7 205 rfl) rfl
theorem q1823 : (Jvm.Cond.methodLink "LandMap" (292 : Nat) ({ cls := "LandMap$Feature", name := "withValue", desc := "(I)LLandMap$Feature;" } : Jvm.MethodName)) ∈ lw_all := lw_g (lw_at lw_m7 206 rfl) rfl
theorem q1824 : (Jvm.Cond.instanceMethod ({ cls := "LandMap$Feature", name := "withValue", desc := "(I)LLandMap$Feature;" } : Jvm.MethodName)) ∈ lw_all := lw_g (lw_at lw_m7 207 rfl) rfl
theorem q1825 : (Jvm.Cond.selects "LandMap$Feature" ({ cls := "LandMap$Feature", name := "withValue", desc := "(I)LLandMap$Feature;" } : Jvm.MethodName) ({ cls := "LandMap$Feature", name := "withValue", desc := "(I)LLandMap$Feature;" } : Jvm.MethodName)) ∈ lw_all := lw_g (lw_at lw_m7 208 rfl) rfl
theorem q1826 : (Jvm.Cond.code ({ cls := "LandMap$Feature", name := "withValue", desc := "(I)LLandMap$Feature;" } : Jvm.MethodName) prog_7_method_6_code (2 : Nat) (Option.some (Jvm.ClassFile.FieldType.object "LandMap$Feature"))) ∈ lw_all := lw_g (lw_at lw_m7 209 rfl) rfl
theorem q1827 : (Jvm.Cond.methodLink "LandMapLaw" (81 : Nat) ({ cls := "LandMap", name := "undo", desc := "()I" } : Jvm.MethodName)) ∈ lw_all := lw_g (lw_at lw_m7 210 rfl) rfl
theorem q1828 : (Jvm.Cond.instanceMethod ({ cls := "LandMap", name := "undo", desc := "()I" } : Jvm.MethodName)) ∈ lw_all := lw_g (lw_at lw_m7 211 rfl) rfl
theorem q1829 : (Jvm.Cond.selects "LandMap" ({ cls := "LandMap", name := "undo", desc := "()I" } : Jvm.MethodName) ({ cls := "LandMap", name := "undo", desc := "()I" } : Jvm.MethodName)) ∈ lw_all := lw_g (lw_at lw_m7 212 rfl) rfl
theorem q1830 : (Jvm.Cond.code ({ cls := "LandMap", name := "undo", desc := "()I" } : Jvm.MethodName) prog_1_method_25_code (1 : Nat) (Option.some Jvm.ClassFile.FieldType.int)) ∈ lw_all := lw_g (lw_at lw_m7 213 rfl) rfl
theorem q1831 : (Jvm.Cond.methodLink "LandMapLaw" (85 : Nat) ({ cls := "LandMap", name := "lay", desc := "(II)I" } : Jvm.MethodName)) ∈ lw_all := lw_g (lw_at lw_m7 214 rfl) rfl
theorem q1832 : (Jvm.Cond.instanceMethod ({ cls := "LandMap", name := "lay", desc := "(II)I" } : Jvm.MethodName)) ∈ lw_all := lw_g (lw_at lw_m7 215 rfl) rfl
theorem q1833 : (Jvm.Cond.selects "LandMap" ({ cls := "LandMap", name := "lay", desc := "(II)I" } : Jvm.MethodName) ({ cls := "LandMap", name := "lay", desc := "(II)I" } : Jvm.MethodName)) ∈ lw_all := lw_g (lw_at lw_m7 216 rfl) rfl
theorem q1834 : (Jvm.Cond.code ({ cls := "LandMap", name := "lay", desc := "(II)I" } : Jvm.MethodName) prog_1_method_27_code (4 : Nat) (Option.some Jvm.ClassFile.FieldType.int)) ∈ lw_all := lw_g (lw_at lw_m7 217 rfl) rfl
theorem q1835 : (Jvm.Cond.methodLink "LandMap" (307 : Nat) ({ cls := "LandMap$Plane", name := "begin", desc := "()V" } : Jvm.MethodName)) ∈ lw_all := lw_g (lw_at lw_m7 218 rfl) rfl
theorem q1836 : (Jvm.Cond.methodLink "LandMap" (310 : Nat) ({ cls := "LandMap", name := "put", desc := "(II)V" } : Jvm.MethodName)) ∈ lw_all := lw_g (lw_at lw_m7 219 rfl) rfl
theorem q1837 : (Jvm.Cond.privateMethod ({ cls := "LandMap", name := "put", desc := "(II)V" } : Jvm.MethodName)) ∈ lw_tbl := lw_at lw_m7 220 rfl
theorem q1838 : (Jvm.Cond.instanceMethod ({ cls := "LandMap", name := "put", desc := "(II)V" } : Jvm.MethodName)) ∈ lw_all := lw_g (lw_at lw_m7 221 rfl) rfl
theorem q1839 : (Jvm.Cond.code ({ cls := "LandMap", name := "put", desc := "(II)V" } : Jvm.MethodName) prog_1_method_26_code (5 : Nat) (Option.none : Option Jvm.ClassFile.FieldType)) ∈ lw_all := lw_g (lw_at lw_m7 222 rfl) rfl
theorem q1840 : (Jvm.Cond.methodLink "LandMap" (302 : Nat) ({ cls := "LandMap$Plane", name := "add", desc := "(LLandMap$Feature;II)V" } : Jvm.MethodName)) ∈ lw_all := lw_g (lw_at lw_m7 223 rfl) rfl
theorem q1841 : (Jvm.Cond.instanceMethod ({ cls := "LandMap$Plane", name := "add", desc := "(LLandMap$Feature;II)V" } : Jvm.MethodName)) ∈ lw_all := lw_g (lw_at lw_m7 224 rfl) rfl
theorem q1842 : (Jvm.Cond.selects "LandMap$Plane" ({ cls := "LandMap$Plane", name := "add", desc := "(LLandMap$Feature;II)V" } : Jvm.MethodName) ({ cls := "LandMap$Plane", name := "add", desc := "(LLandMap$Feature;II)V" } : Jvm.MethodName)) ∈ lw_all := lw_g (lw_at lw_m7 225 rfl) rfl
theorem q1843 : (Jvm.Cond.code ({ cls := "LandMap$Plane", name := "add", desc := "(LLandMap$Feature;II)V" } : Jvm.MethodName) prog_15_method_3_code (4 : Nat) (Option.none : Option Jvm.ClassFile.FieldType)) ∈ lw_all := lw_g (lw_at lw_m7 226 rfl) rfl
theorem q1844 : (Jvm.Cond.methodLink "LandMap$Plane" (99 : Nat) ({ cls := "LandMap$Feature", name := "rows", desc := "()I" } : Jvm.MethodName)) ∈ lw_all := lw_g (lw_at lw_m7 227 rfl) rfl
theorem q1845 : (Jvm.Cond.methodLink "LandMap" (314 : Nat) ({ cls := "LandMap$Plane", name := "build", desc := "(Z)Z" } : Jvm.MethodName)) ∈ lw_all := lw_g (lw_at lw_m7 228 rfl) rfl
theorem q1846 : (Jvm.Cond.methodLink "LandMap" (322 : Nat) ({ cls := "LandMap$Faces", name := "build", desc := "()V" } : Jvm.MethodName)) ∈ lw_all := lw_g (lw_at lw_m7 229 rfl) rfl
theorem q1847 : (Jvm.Cond.methodLink "LandMap" (330 : Nat) ({ cls := "LandMap$Roads", name := "build", desc := "(LLandMap$Laid;)V" } : Jvm.MethodName)) ∈ lw_all := lw_g (lw_at lw_m7 230 rfl) rfl
theorem q1848 : (Jvm.Cond.instanceMethod ({ cls := "LandMap$Roads", name := "build", desc := "(LLandMap$Laid;)V" } : Jvm.MethodName)) ∈ lw_all := lw_g (lw_at lw_m7 231 rfl) rfl
theorem q1849 : (Jvm.Cond.selects "LandMap$Roads" ({ cls := "LandMap$Roads", name := "build", desc := "(LLandMap$Laid;)V" } : Jvm.MethodName) ({ cls := "LandMap$Roads", name := "build", desc := "(LLandMap$Laid;)V" } : Jvm.MethodName)) ∈ lw_all := lw_g (lw_at lw_m7 232 rfl) rfl
theorem q1850 : (Jvm.Cond.code ({ cls := "LandMap$Roads", name := "build", desc := "(LLandMap$Laid;)V" } : Jvm.MethodName) prog_18_method_3_code (6 : Nat) (Option.none : Option Jvm.ClassFile.FieldType)) ∈ lw_all := lw_g (lw_at lw_m7 233 rfl) rfl
theorem q1851 : (Jvm.Cond.constant "LandMap$Roads" (64 : Nat) (1000000 : Int32)) ∈ lw_all := lw_g (lw_at lw_m7 234 rfl) rfl
theorem q1852 : (Jvm.Cond.methodLink "LandMap$Roads" (86 : Nat) ({ cls := "java/lang/Math", name := "min", desc := "(II)I" } : Jvm.MethodName)) ∈ lw_all := lw_g (lw_at lw_m7 235 rfl) rfl
theorem q1853 : (Jvm.Cond.constantLong "LandMap$Roads" (98 : Nat) (-1 : Int64)) ∈ lw_all := lw_g (lw_at lw_m7 236 rfl) rfl
theorem q1854 : (Jvm.Cond.methodLink "LandMap$Roads" (106 : Nat) ({ cls := "LandMap$Exact", name := "length", desc := "(II)J" } : Jvm.MethodName)) ∈ lw_all := lw_g (lw_at lw_m7 237 rfl) rfl
theorem q1855 : (Jvm.Cond.methodLink "LandMapLaw" (89 : Nat) ({ cls := "LandMap", name := "laid", desc := "(I)I" } : Jvm.MethodName)) ∈ lw_all := lw_g (lw_at lw_m7 238 rfl) rfl
theorem q1856 : (Jvm.Cond.instanceMethod ({ cls := "LandMap", name := "laid", desc := "(I)I" } : Jvm.MethodName)) ∈ lw_all := lw_g (lw_at lw_m7 239 rfl) rfl
theorem q1857 : (Jvm.Cond.selects "LandMap" ({ cls := "LandMap", name := "laid", desc := "(I)I" } : Jvm.MethodName) ({ cls := "LandMap", name := "laid", desc := "(I)I" } : Jvm.MethodName)) ∈ lw_all := lw_g (lw_at lw_m8 0 rfl) rfl
theorem q1858 : (Jvm.Cond.code ({ cls := "LandMap", name := "laid", desc := "(I)I" } : Jvm.MethodName) prog_1_method_28_code (5 : Nat) (Option.some Jvm.ClassFile.FieldType.int)) ∈ lw_all := lw_g (lw_at lw_m8 1 rfl) rfl
theorem q1859 : (Jvm.Cond.methodLink "LandMap" (341 : Nat) ({ cls := "LandMap$Plane", name := "count", desc := "(II)I" } : Jvm.MethodName)) ∈ lw_all := lw_g (lw_at lw_m8 2 rfl) rfl
theorem q1860 : (Jvm.Cond.instanceMethod ({ cls := "LandMap$Plane", name := "count", desc := "(II)I" } : Jvm.MethodName)) ∈ lw_all := lw_g (lw_at lw_m8 3 rfl) rfl
theorem q1861 : (Jvm.Cond.selects "LandMap$Plane" ({ cls := "LandMap$Plane", name := "count", desc := "(II)I" } : Jvm.MethodName) ({ cls := "LandMap$Plane", name := "count", desc := "(II)I" } : Jvm.MethodName)) ∈ lw_all := lw_g (lw_at lw_m8 4 rfl) rfl
theorem q1862 : (Jvm.Cond.code ({ cls := "LandMap$Plane", name := "count", desc := "(II)I" } : Jvm.MethodName) prog_15_method_14_code (5 : Nat) (Option.some Jvm.ClassFile.FieldType.int)) ∈ lw_all := lw_g (lw_at lw_m8 5 rfl) rfl
theorem q1863 : (Jvm.Cond.methodLink "LandMapLaw" (93 : Nat) ({ cls := "LandMap", name := "node", desc := "(II)I" } : Jvm.MethodName)) ∈ lw_all := lw_g (lw_at lw_m8 6 rfl) rfl
theorem q1864 : (Jvm.Cond.instanceMethod ({ cls := "LandMap", name := "node", desc := "(II)I" } : Jvm.MethodName)) ∈ lw_all := lw_g (lw_at lw_m8 7 rfl) rfl
theorem q1865 : (Jvm.Cond.selects "LandMap" ({ cls := "LandMap", name := "node", desc := "(II)I" } : Jvm.MethodName) ({ cls := "LandMap", name := "node", desc := "(II)I" } : Jvm.MethodName)) ∈ lw_all := lw_g (lw_at lw_m8 8 rfl) rfl
theorem q1866 : (Jvm.Cond.code ({ cls := "LandMap", name := "node", desc := "(II)I" } : Jvm.MethodName) prog_1_method_29_code (3 : Nat) (Option.some Jvm.ClassFile.FieldType.int)) ∈ lw_all := lw_g (lw_at lw_m8 9 rfl) rfl
theorem q1867 : (Jvm.Cond.methodLink "LandMap" (346 : Nat) ({ cls := "LandMap$Faces", name := "degree", desc := "(I)I" } : Jvm.MethodName)) ∈ lw_all := lw_g (lw_at lw_m8 10 rfl) rfl
theorem q1868 : (Jvm.Cond.instanceMethod ({ cls := "LandMap$Faces", name := "degree", desc := "(I)I" } : Jvm.MethodName)) ∈ lw_all := lw_g (lw_at lw_m8 11 rfl) rfl
theorem q1869 : (Jvm.Cond.selects "LandMap$Faces" ({ cls := "LandMap$Faces", name := "degree", desc := "(I)I" } : Jvm.MethodName) ({ cls := "LandMap$Faces", name := "degree", desc := "(I)I" } : Jvm.MethodName)) ∈ lw_all := lw_g (lw_at lw_m8 12 rfl) rfl
theorem q1870 : (Jvm.Cond.code ({ cls := "LandMap$Faces", name := "degree", desc := "(I)I" } : Jvm.MethodName) prog_6_method_9_code (2 : Nat) (Option.some Jvm.ClassFile.FieldType.int)) ∈ lw_all := lw_g (lw_at lw_m8 13 rfl) rfl
theorem q1871 : (Jvm.Cond.methodLink "LandMapLaw" (97 : Nat) ({ cls := "LandMap", name := "piece", desc := "(II)I" } : Jvm.MethodName)) ∈ lw_all := lw_g (lw_at lw_m8 14 rfl) rfl
theorem q1872 : (Jvm.Cond.instanceMethod ({ cls := "LandMap", name := "piece", desc := "(II)I" } : Jvm.MethodName)) ∈ lw_all := lw_g (lw_at lw_m8 15 rfl) rfl
theorem q1873 : (Jvm.Cond.selects "LandMap" ({ cls := "LandMap", name := "piece", desc := "(II)I" } : Jvm.MethodName) ({ cls := "LandMap", name := "piece", desc := "(II)I" } : Jvm.MethodName)) ∈ lw_all := lw_g (lw_at lw_m8 16 rfl) rfl
theorem q1874 : (Jvm.Cond.code ({ cls := "LandMap", name := "piece", desc := "(II)I" } : Jvm.MethodName) prog_1_method_30_code (3 : Nat) (Option.some Jvm.ClassFile.FieldType.int)) ∈ lw_all := lw_g (lw_at lw_m8 17 rfl) rfl
theorem q1875 : (Jvm.Cond.methodLink "LandMap" (356 : Nat) ({ cls := "LandMap$Faces", name := "left", desc := "(I)I" } : Jvm.MethodName)) ∈ lw_all := lw_g (lw_at lw_m8 18 rfl) rfl
theorem q1876 : (Jvm.Cond.methodLink "LandMapLaw" (101 : Nat) ({ cls := "LandMap", name := "face", desc := "(II)I" } : Jvm.MethodName)) ∈ lw_all := lw_g (lw_at lw_m8 19 rfl) rfl
theorem q1877 : (Jvm.Cond.instanceMethod ({ cls := "LandMap", name := "face", desc := "(II)I" } : Jvm.MethodName)) ∈ lw_all := lw_g (lw_at lw_m8 20 rfl) rfl
theorem q1878 : (Jvm.Cond.selects "LandMap" ({ cls := "LandMap", name := "face", desc := "(II)I" } : Jvm.MethodName) ({ cls := "LandMap", name := "face", desc := "(II)I" } : Jvm.MethodName)) ∈ lw_all := lw_g (lw_at lw_m8 21 rfl) rfl
theorem q1879 : (Jvm.Cond.code ({ cls := "LandMap", name := "face", desc := "(II)I" } : Jvm.MethodName) prog_1_method_31_code (5 : Nat) (Option.some Jvm.ClassFile.FieldType.int)) ∈ lw_all := lw_g (lw_at lw_m8 22 rfl) rfl
theorem q1880 : (Jvm.Cond.methodLink "LandMap" (365 : Nat) ({ cls := "LandMap$Faces", name := "howMany", desc := "(II)I" } : Jvm.MethodName)) ∈ lw_all := lw_g (lw_at lw_m8 23 rfl) rfl
theorem q1881 : (Jvm.Cond.instanceMethod ({ cls := "LandMap$Faces", name := "howMany", desc := "(II)I" } : Jvm.MethodName)) ∈ lw_all := lw_g (lw_at lw_m8 24 rfl) rfl
theorem q1882 : (Jvm.Cond.selects "LandMap$Faces" ({ cls := "LandMap$Faces", name := "howMany", desc := "(II)I" } : Jvm.MethodName) ({ cls := "LandMap$Faces", name := "howMany", desc := "(II)I" } : Jvm.MethodName)) ∈ lw_all := lw_g (lw_at lw_m8 25 rfl) rfl
theorem q1883 : (Jvm.Cond.code ({ cls := "LandMap$Faces", name := "howMany", desc := "(II)I" } : Jvm.MethodName) prog_6_method_26_code (5 : Nat) (Option.some Jvm.ClassFile.FieldType.int)) ∈ lw_all := lw_g (lw_at lw_m8 26 rfl) rfl
theorem q1884 : (Jvm.Cond.methodLink "LandMap$Faces" (211 : Nat) ({ cls := "LandMap$Faces", name := "isCovered", desc := "(II)Z" } : Jvm.MethodName)) ∈ lw_all := lw_g (lw_at lw_m8 27 rfl) rfl
theorem q1885 : (Jvm.Cond.methodLink "LandMap" (368 : Nat) ({ cls := "LandMap$Faces", name := "least", desc := "(II)I" } : Jvm.MethodName)) ∈ lw_all := lw_g (lw_at lw_m8 28 rfl) rfl
theorem q1886 : (Jvm.Cond.instanceMethod ({ cls := "LandMap$Faces", name := "least", desc := "(II)I" } : Jvm.MethodName)) ∈ lw_all := lw_g (lw_at lw_m8 29 rfl) rfl
theorem q1887 : (Jvm.Cond.selects "LandMap$Faces" ({ cls := "LandMap$Faces", name := "least", desc := "(II)I" } : Jvm.MethodName) ({ cls := "LandMap$Faces", name := "least", desc := "(II)I" } : Jvm.MethodName)) ∈ lw_all := lw_g (lw_at lw_m8 30 rfl) rfl
theorem q1888 : (Jvm.Cond.code ({ cls := "LandMap$Faces", name := "least", desc := "(II)I" } : Jvm.MethodName) prog_6_method_25_code (4 : Nat) (Option.some Jvm.ClassFile.FieldType.int)) ∈ lw_all := lw_g (lw_at lw_m8 31 rfl) rfl
theorem q1889 : (Jvm.Cond.methodLink "LandMapLaw" (105 : Nat) ({ cls := "LandMap", name := "faceArea2", desc := "(I)J" } : Jvm.MethodName)) ∈ lw_all := lw_g (lw_at lw_m8 32 rfl) rfl
theorem q1890 : (Jvm.Cond.instanceMethod ({ cls := "LandMap", name := "faceArea2", desc := "(I)J" } : Jvm.MethodName)) ∈ lw_all := lw_g (lw_at lw_m8 33 rfl) rfl
theorem q1891 : (Jvm.Cond.selects "LandMap" ({ cls := "LandMap", name := "faceArea2", desc := "(I)J" } : Jvm.MethodName) ({ cls := "LandMap", name := "faceArea2", desc := "(I)J" } : Jvm.MethodName)) ∈ lw_all := lw_g (lw_at lw_m8 34 rfl) rfl
theorem q1892 : (Jvm.Cond.code ({ cls := "LandMap", name := "faceArea2", desc := "(I)J" } : Jvm.MethodName) prog_1_method_32_code (2 : Nat) (Option.some Jvm.ClassFile.FieldType.long)) ∈ lw_all := lw_g (lw_at lw_m8 35 rfl) rfl
theorem q1893 : (Jvm.Cond.methodLink "LandMapLaw" (110 : Nat) ({ cls := "LandMap", name := "locate", desc := "(II)I" } : Jvm.MethodName)) ∈ lw_all := lw_g (lw_at lw_m8 36 rfl) rfl
theorem q1894 : (Jvm.Cond.instanceMethod ({ cls := "LandMap", name := "locate", desc := "(II)I" } : Jvm.MethodName)) ∈ lw_all := lw_g (lw_at lw_m8 37 rfl) rfl
theorem q1895 : (Jvm.Cond.selects "LandMap" ({ cls := "LandMap", name := "locate", desc := "(II)I" } : Jvm.MethodName) ({ cls := "LandMap", name := "locate", desc := "(II)I" } : Jvm.MethodName)) ∈ lw_all := lw_g (lw_at lw_m8 38 rfl) rfl
theorem q1896 : (Jvm.Cond.code ({ cls := "LandMap", name := "locate", desc := "(II)I" } : Jvm.MethodName) prog_1_method_33_code (4 : Nat) (Option.some Jvm.ClassFile.FieldType.int)) ∈ lw_all := lw_g (lw_at lw_m8 39 rfl) rfl
theorem q1897 : (Jvm.Cond.constant "LandMap" (378 : Nat) (-1000000 : Int32)) ∈ lw_all := lw_g (lw_at lw_m8 40 rfl) rfl
theorem q1898 : (Jvm.Cond.methodLink "LandMap" (379 : Nat) ({ cls := "LandMap$Faces", name := "pieceAt", desc := "(II)I" } : Jvm.MethodName)) ∈ lw_all := lw_g (lw_at lw_m8 41 rfl) rfl
theorem q1899 : (Jvm.Cond.instanceMethod ({ cls := "LandMap$Faces", name := "pieceAt", desc := "(II)I" } : Jvm.MethodName)) ∈ lw_all := lw_g (lw_at lw_m8 42 rfl) rfl
theorem q1900 : (Jvm.Cond.selects "LandMap$Faces" ({ cls := "LandMap$Faces", name := "pieceAt", desc := "(II)I" } : Jvm.MethodName) ({ cls := "LandMap$Faces", name := "pieceAt", desc := "(II)I" } : Jvm.MethodName)) ∈ lw_all := lw_g (lw_at lw_m8 43 rfl) rfl
theorem q1901 : (Jvm.Cond.code ({ cls := "LandMap$Faces", name := "pieceAt", desc := "(II)I" } : Jvm.MethodName) prog_6_method_27_code (6 : Nat) (Option.some Jvm.ClassFile.FieldType.int)) ∈ lw_all := lw_g (lw_at lw_m8 44 rfl) rfl
theorem q1902 : (Jvm.Cond.methodLink "LandMap$Faces" (214 : Nat) ({ cls := "LandMap$Exact", name := "isOn", desc := "(IIIIII)Z" } : Jvm.MethodName)) ∈ lw_all := lw_g (lw_at lw_m8 45 rfl) rfl
theorem q1903 : (Jvm.Cond.methodLink "LandMap" (382 : Nat) ({ cls := "LandMap$Faces", name := "faceLeftOf", desc := "(II)I" } : Jvm.MethodName)) ∈ lw_all := lw_g (lw_at lw_m8 46 rfl) rfl
theorem q1904 : (Jvm.Cond.methodLink "LandMapLaw" (114 : Nat) ({ cls := "LandMap", name := "overlay", desc := "(IIZ)I" } : Jvm.MethodName)) ∈ lw_all := lw_g (lw_at lw_m8 47 rfl) rfl
theorem q1905 : (Jvm.Cond.instanceMethod ({ cls := "LandMap", name := "overlay", desc := "(IIZ)I" } : Jvm.MethodName)) ∈ lw_all := lw_g (lw_at lw_m8 48 rfl) rfl
theorem q1906 : (Jvm.Cond.selects "LandMap" ({ cls := "LandMap", name := "overlay", desc := "(IIZ)I" } : Jvm.MethodName) ({ cls := "LandMap", name := "overlay", desc := "(IIZ)I" } : Jvm.MethodName)) ∈ lw_all := lw_g (lw_at lw_m8 49 rfl) rfl
theorem q1907 : (Jvm.Cond.code ({ cls := "LandMap", name := "overlay", desc := "(IIZ)I" } : Jvm.MethodName) prog_1_method_34_code (6 : Nat) (Option.some Jvm.ClassFile.FieldType.int)) ∈ lw_all := lw_g (lw_at lw_m8 50 rfl) rfl
theorem q1908 : (Jvm.Cond.methodLink "LandMap" (385 : Nat) ({ cls := "LandMap$Overlay", name := "work", desc := "(LLandMap$Laid;IZ)I" } : Jvm.MethodName)) ∈ lw_all := lw_g (lw_at lw_m8 51 rfl) rfl
theorem q1909 : (Jvm.Cond.instanceMethod ({ cls := "LandMap$Overlay", name := "work", desc := "(LLandMap$Laid;IZ)I" } : Jvm.MethodName)) ∈ lw_all := lw_g (lw_at lw_m8 52 rfl) rfl
theorem q1910 : (Jvm.Cond.selects "LandMap$Overlay" ({ cls := "LandMap$Overlay", name := "work", desc := "(LLandMap$Laid;IZ)I" } : Jvm.MethodName) ({ cls := "LandMap$Overlay", name := "work", desc := "(LLandMap$Laid;IZ)I" } : Jvm.MethodName)) ∈ lw_all := lw_g (lw_at lw_m8 53 rfl) rfl
theorem q1911 : (Jvm.Cond.code ({ cls := "LandMap$Overlay", name := "work", desc := "(LLandMap$Laid;IZ)I" } : Jvm.MethodName) prog_13_method_3_code (6 : Nat) (Option.some Jvm.ClassFile.FieldType.int)) ∈ lw_all := lw_g (lw_at lw_m8 54 rfl) rfl
theorem q1912 : (Jvm.Cond.methodLink "LandMap$Overlay" (80 : Nat) ({ cls := "LandMap$Faces", name := "least", desc := "(II)I" } : Jvm.MethodName)) ∈ lw_all := lw_g (lw_at lw_m8 55 rfl) rfl
theorem q1913 : (Jvm.Cond.methodLink "LandMap$Overlay" (84 : Nat) ({ cls := "LandMap$Overlay", name := "isChosen", desc := "(IZZ)Z" } : Jvm.MethodName)) ∈ lw_all := lw_g (lw_at lw_m8 56 rfl) rfl
theorem q1914 : (Jvm.Cond.static ({ cls := "LandMap$Overlay", name := "isChosen", desc := "(IZZ)Z" } : Jvm.MethodName)) ∈ lw_all := lw_g (lw_at lw_m8 57 rfl) rfl
theorem q1915 : (Jvm.Cond.code ({ cls := "LandMap$Overlay", name := "isChosen", desc := "(IZZ)Z" } : Jvm.MethodName) prog_13_method_2_code (3 : Nat) (Option.some Jvm.ClassFile.FieldType.boolean)) ∈ lw_all := lw_g (lw_at lw_m8 58 rfl) rfl
theorem q1916 : (Jvm.Cond.methodLink "LandMap$Overlay" (88 : Nat) ({ cls := "LandMap$Faces", name := "wholes", desc := "([I[I)I" } : Jvm.MethodName)) ∈ lw_all := lw_g (lw_at lw_m8 59 rfl) rfl
theorem q1917 : (Jvm.Cond.methodLink "LandMap$Overlay" (103 : Nat) ({ cls := "LandMap$Overlay", name := "ring", desc := "()V" } : Jvm.MethodName)) ∈ lw_all := lw_g (lw_at lw_m8 60 rfl) rfl
theorem q1918 : (Jvm.Cond.privateMethod ({ cls := "LandMap$Overlay", name := "ring", desc := "()V" } : Jvm.MethodName)) ∈ lw_tbl := lw_at lw_m8 61 rfl
theorem q1919 : (Jvm.Cond.instanceMethod ({ cls := "LandMap$Overlay", name := "ring", desc := "()V" } : Jvm.MethodName)) ∈ lw_all := lw_g (lw_at lw_m8 62 rfl) rfl
theorem q1920 : (Jvm.Cond.code ({ cls := "LandMap$Overlay", name := "ring", desc := "()V" } : Jvm.MethodName) prog_13_method_5_code (3 : Nat) (Option.none : Option Jvm.ClassFile.FieldType)) ∈ lw_all := lw_g (lw_at lw_m8 63 rfl) rfl
theorem q1921 : (Jvm.Cond.methodLink "LandMap$Overlay" (123 : Nat) ({ cls := "LandMap$Overlay", name := "isBorder", desc := "(I)Z" } : Jvm.MethodName)) ∈ lw_all := lw_g (lw_at lw_m8 64 rfl) rfl
theorem q1922 : (Jvm.Cond.privateMethod ({ cls := "LandMap$Overlay", name := "isBorder", desc := "(I)Z" } : Jvm.MethodName)) ∈ lw_tbl := lw_at lw_m8 65 rfl
theorem q1923 : (Jvm.Cond.instanceMethod ({ cls := "LandMap$Overlay", name := "isBorder", desc := "(I)Z" } : Jvm.MethodName)) ∈ lw_all := lw_g (lw_at lw_m8 66 rfl) rfl
theorem q1924 : (Jvm.Cond.code ({ cls := "LandMap$Overlay", name := "isBorder", desc := "(I)Z" } : Jvm.MethodName) prog_13_method_4_code (2 : Nat) (Option.some Jvm.ClassFile.FieldType.boolean)) ∈ lw_all := lw_g (lw_at lw_m8 67 rfl) rfl
theorem q1925 : (Jvm.Cond.methodLink "LandMap$Overlay" (110 : Nat) ({ cls := "LandMap$Faces", name := "left", desc := "(I)I" } : Jvm.MethodName)) ∈ lw_all := lw_g (lw_at lw_m8 68 rfl) rfl
theorem q1926 : (Jvm.Cond.methodLink "LandMap$Overlay" (127 : Nat) ({ cls := "LandMap$Overlay", name := "goRound", desc := "(I)V" } : Jvm.MethodName)) ∈ lw_all := lw_g (lw_at lw_m8 69 rfl) rfl
theorem q1927 : (Jvm.Cond.privateMethod ({ cls := "LandMap$Overlay", name := "goRound", desc := "(I)V" } : Jvm.MethodName)) ∈ lw_tbl := lw_at lw_m8 70 rfl
theorem q1928 : (Jvm.Cond.instanceMethod ({ cls := "LandMap$Overlay", name := "goRound", desc := "(I)V" } : Jvm.MethodName)) ∈ lw_all := lw_g (lw_at lw_m8 71 rfl) rfl
theorem q1929 : (Jvm.Cond.code ({ cls := "LandMap$Overlay", name := "goRound", desc := "(I)V" } : Jvm.MethodName) prog_13_method_6_code (5 : Nat) (Option.none : Option Jvm.ClassFile.FieldType)) ∈ lw_all := lw_g (lw_at lw_m8 72 rfl) rfl
theorem q1930 : (Jvm.Cond.methodLink "LandMap$Overlay" (134 : Nat) ({ cls := "LandMap$Faces", name := "from", desc := "(I)I" } : Jvm.MethodName)) ∈ lw_all := lw_g (lw_at lw_m8 73 rfl) rfl
theorem q1931 : (Jvm.Cond.methodLink "LandMap$Overlay" (136 : Nat) ({ cls := "LandMap$Overlay", name := "come", desc := "(II)V" } : Jvm.MethodName)) ∈ lw_all := lw_g (lw_at lw_m8 74 rfl) rfl
theorem q1932 : (Jvm.Cond.privateMethod ({ cls := "LandMap$Overlay", name := "come", desc := "(II)V" } : Jvm.MethodName)) ∈ lw_tbl := lw_at lw_m8 75 rfl
theorem q1933 : (Jvm.Cond.instanceMethod ({ cls := "LandMap$Overlay", name := "come", desc := "(II)V" } : Jvm.MethodName)) ∈ lw_all := lw_g (lw_at lw_m8 76 rfl) rfl
theorem q1934 : (Jvm.Cond.code ({ cls := "LandMap$Overlay", name := "come", desc := "(II)V" } : Jvm.MethodName) prog_13_method_7_code (3 : Nat) (Option.none : Option Jvm.ClassFile.FieldType)) ∈ lw_all := lw_g (lw_at lw_m8 77 rfl) rfl
theorem q1935 : (Jvm.Cond.methodLink "LandMap$Overlay" (143 : Nat) ({ cls := "LandMap$Overlay", name := "emit", desc := "(II)V" } : Jvm.MethodName)) ∈ lw_all := lw_g (lw_at lw_m8 78 rfl) rfl
theorem q1936 : (Jvm.Cond.privateMethod ({ cls := "LandMap$Overlay", name := "emit", desc := "(II)V" } : Jvm.MethodName)) ∈ lw_tbl := lw_at lw_m8 79 rfl
theorem q1937 : (Jvm.Cond.instanceMethod ({ cls := "LandMap$Overlay", name := "emit", desc := "(II)V" } : Jvm.MethodName)) ∈ lw_all := lw_g (lw_at lw_m8 80 rfl) rfl
theorem q1938 : (Jvm.Cond.code ({ cls := "LandMap$Overlay", name := "emit", desc := "(II)V" } : Jvm.MethodName) prog_13_method_8_code (12 : Nat) (Option.none : Option Jvm.ClassFile.FieldType)) ∈ lw_all := lw_g (lw_at lw_m8 81 rfl) rfl
theorem q1939 : (Jvm.Cond.methodLink "LandMap$Overlay" (148 : Nat) ({ cls := "LandMap$Exact", name := "side", desc := "(IIIIII)J" } : Jvm.MethodName)) ∈ lw_all := lw_g (lw_at lw_m8 82 rfl) rfl
theorem q1940 : (Jvm.Cond.methodLink "LandMap$Overlay" (140 : Nat) ({ cls := "LandMap$Faces", name := "next", desc := "(I)I" } : Jvm.MethodName)) ∈ lw_all := lw_g (lw_at lw_m8 83 rfl) rfl
theorem q1941 : (Jvm.Cond.methodLink "LandMap$Overlay" (106 : Nat) ({ cls := "LandMap$Overlay", name := "placesOf", desc := "()I" } : Jvm.MethodName)) ∈ lw_all := lw_g (lw_at lw_m8 84 rfl) rfl
theorem q1942 : (Jvm.Cond.privateMethod ({ cls := "LandMap$Overlay", name := "placesOf", desc := "()I" } : Jvm.MethodName)) ∈ lw_tbl := lw_at lw_m8 85 rfl
theorem q1943 : (Jvm.Cond.instanceMethod ({ cls := "LandMap$Overlay", name := "placesOf", desc := "()I" } : Jvm.MethodName)) ∈ lw_all := lw_g (lw_at lw_m8 86 rfl) rfl
theorem q1944 : (Jvm.Cond.code ({ cls := "LandMap$Overlay", name := "placesOf", desc := "()I" } : Jvm.MethodName) prog_13_method_10_code (4 : Nat) (Option.some Jvm.ClassFile.FieldType.int)) ∈ lw_all := lw_g (lw_at lw_m8 87 rfl) rfl
theorem q1945 : (Jvm.Cond.methodLink "LandMap$Overlay" (159 : Nat) ({ cls := "LandMap$Overlay", name := "isBefore", desc := "(II)Z" } : Jvm.MethodName)) ∈ lw_all := lw_g (lw_at lw_m8 88 rfl) rfl
theorem q1946 : (Jvm.Cond.privateMethod ({ cls := "LandMap$Overlay", name := "isBefore", desc := "(II)Z" } : Jvm.MethodName)) ∈ lw_tbl := lw_at lw_m8 89 rfl
theorem q1947 : (Jvm.Cond.instanceMethod ({ cls := "LandMap$Overlay", name := "isBefore", desc := "(II)Z" } : Jvm.MethodName)) ∈ lw_all := lw_g (lw_at lw_m8 90 rfl) rfl
theorem q1948 : (Jvm.Cond.code ({ cls := "LandMap$Overlay", name := "isBefore", desc := "(II)Z" } : Jvm.MethodName) prog_13_method_9_code (7 : Nat) (Option.some Jvm.ClassFile.FieldType.boolean)) ∈ lw_all := lw_g (lw_at lw_m8 91 rfl) rfl
theorem q1949 : (Jvm.Cond.methodLink "LandMap$Overlay" (154 : Nat) ({ cls := "java/lang/Math", name := "min", desc := "(II)I" } : Jvm.MethodName)) ∈ lw_all := lw_g (lw_at lw_m8 92 rfl) rfl
theorem q1950 : (Jvm.Cond.classLink "LandMap" (157 : Nat) "LandMap$Layer") ∈ lw_all := lw_g (lw_at lw_m8 93 rfl) rfl
theorem q1951 : (Jvm.Cond.methodLink "LandMap" (391 : Nat) ({ cls := "LandMap$Layer", name := "<init>", desc := "(I)V" } : Jvm.MethodName)) ∈ lw_all := lw_g (lw_at lw_m8 94 rfl) rfl
theorem q1952 : (Jvm.Cond.methodLink "LandMap" (392 : Nat) ({ cls := "LandMap$Overlay", name := "tell", desc := "(LLandMap$Draft;LLandMap$Layer;)V" } : Jvm.MethodName)) ∈ lw_all := lw_g (lw_at lw_m8 95 rfl) rfl
theorem q1953 : (Jvm.Cond.instanceMethod ({ cls := "LandMap$Overlay", name := "tell", desc := "(LLandMap$Draft;LLandMap$Layer;)V" } : Jvm.MethodName)) ∈ lw_all := lw_g (lw_at lw_m8 96 rfl) rfl
theorem q1954 : (Jvm.Cond.selects "LandMap$Overlay" ({ cls := "LandMap$Overlay", name := "tell", desc := "(LLandMap$Draft;LLandMap$Layer;)V" } : Jvm.MethodName) ({ cls := "LandMap$Overlay", name := "tell", desc := "(LLandMap$Draft;LLandMap$Layer;)V" } : Jvm.MethodName)) ∈ lw_all := lw_g (lw_at lw_m8 97 rfl) rfl
theorem q1955 : (Jvm.Cond.code ({ cls := "LandMap$Overlay", name := "tell", desc := "(LLandMap$Draft;LLandMap$Layer;)V" } : Jvm.MethodName) prog_13_method_11_code (6 : Nat) (Option.none : Option Jvm.ClassFile.FieldType)) ∈ lw_all := lw_g (lw_at lw_m8 98 rfl) rfl
theorem q1956 : (Jvm.Cond.methodLink "LandMap$Overlay" (163 : Nat) ({ cls := "LandMap$Draft", name := "clear", desc := "()V" } : Jvm.MethodName)) ∈ lw_all := lw_g (lw_at lw_m8 99 rfl) rfl
theorem q1957 : (Jvm.Cond.methodLink "LandMap$Overlay" (168 : Nat) ({ cls := "LandMap$Overlay", name := "put", desc := "(LLandMap$Draft;I)V" } : Jvm.MethodName)) ∈ lw_all := lw_g (lw_at lw_m8 100 rfl) rfl
theorem q1958 : (Jvm.Cond.privateMethod ({ cls := "LandMap$Overlay", name := "put", desc := "(LLandMap$Draft;I)V" } : Jvm.MethodName)) ∈ lw_tbl := lw_at lw_m8 101 rfl
theorem q1959 : (Jvm.Cond.instanceMethod ({ cls := "LandMap$Overlay", name := "put", desc := "(LLandMap$Draft;I)V" } : Jvm.MethodName)) ∈ lw_all := lw_g (lw_at lw_m8 102 rfl) rfl
theorem q1960 : (Jvm.Cond.code ({ cls := "LandMap$Overlay", name := "put", desc := "(LLandMap$Draft;I)V" } : Jvm.MethodName) prog_13_method_12_code (4 : Nat) (Option.none : Option Jvm.ClassFile.FieldType)) ∈ lw_all := lw_g (lw_at lw_m8 103 rfl) rfl
theorem q1961 : (Jvm.Cond.methodLink "LandMap$Overlay" (182 : Nat) ({ cls := "LandMap$Draft", name := "add", desc := "(II)V" } : Jvm.MethodName)) ∈ lw_all := lw_g (lw_at lw_m8 104 rfl) rfl
theorem q1962 : (Jvm.Cond.methodLink "LandMap$Overlay" (184 : Nat) ({ cls := "LandMap$Draft", name := "endRow", desc := "()V" } : Jvm.MethodName)) ∈ lw_all := lw_g (lw_at lw_m8 105 rfl) rfl
theorem q1963 : (Jvm.Cond.methodLink "LandMap$Overlay" (172 : Nat) ({ cls := "LandMap$Draft", name := "make", desc := "(II)LLandMap$Feature;" } : Jvm.MethodName)) ∈ lw_all := lw_g (lw_at lw_m8 106 rfl) rfl
theorem q1964 : (Jvm.Cond.methodLink "LandMap$Overlay" (176 : Nat) ({ cls := "LandMap$Layer", name := "add", desc := "(LLandMap$Feature;)V" } : Jvm.MethodName)) ∈ lw_all := lw_g (lw_at lw_m8 107 rfl) rfl
theorem q1965 : (Jvm.Cond.methodLink "LandMapLaw" (119 : Nat) ({ cls := "LandMap", name := "other", desc := "(II)Z" } : Jvm.MethodName)) ∈ lw_all := lw_g (lw_at lw_m8 108 rfl) rfl
theorem q1966 : (Jvm.Cond.instanceMethod ({ cls := "LandMap", name := "other", desc := "(II)Z" } : Jvm.MethodName)) ∈ lw_all := lw_g (lw_at lw_m8 109 rfl) rfl
theorem q1967 : (Jvm.Cond.selects "LandMap" ({ cls := "LandMap", name := "other", desc := "(II)Z" } : Jvm.MethodName) ({ cls := "LandMap", name := "other", desc := "(II)Z" } : Jvm.MethodName)) ∈ lw_all := lw_g (lw_at lw_m8 110 rfl) rfl
theorem q1968 : (Jvm.Cond.code ({ cls := "LandMap", name := "other", desc := "(II)Z" } : Jvm.MethodName) prog_1_method_35_code (3 : Nat) (Option.some Jvm.ClassFile.FieldType.boolean)) ∈ lw_all := lw_g (lw_at lw_m8 111 rfl) rfl
theorem q1969 : (Jvm.Cond.methodLink "LandMapLaw" (124 : Nat) ({ cls := "LandMap", name := "relate", desc := "(IIII)I" } : Jvm.MethodName)) ∈ lw_all := lw_g (lw_at lw_m8 112 rfl) rfl
theorem q1970 : (Jvm.Cond.instanceMethod ({ cls := "LandMap", name := "relate", desc := "(IIII)I" } : Jvm.MethodName)) ∈ lw_all := lw_g (lw_at lw_m8 113 rfl) rfl
theorem q1971 : (Jvm.Cond.selects "LandMap" ({ cls := "LandMap", name := "relate", desc := "(IIII)I" } : Jvm.MethodName) ({ cls := "LandMap", name := "relate", desc := "(IIII)I" } : Jvm.MethodName)) ∈ lw_all := lw_g (lw_at lw_m8 114 rfl) rfl
theorem q1972 : (Jvm.Cond.code ({ cls := "LandMap", name := "relate", desc := "(IIII)I" } : Jvm.MethodName) prog_1_method_36_code (7 : Nat) (Option.some Jvm.ClassFile.FieldType.int)) ∈ lw_all := lw_g (lw_at lw_m8 115 rfl) rfl
theorem q1973 : (Jvm.Cond.methodLink "LandMap" (402 : Nat) ({ cls := "LandMap$Relation", name := "lay", desc := "(LLandMap$Feature;LLandMap$Feature;LLandMap$Laid;)Z" } : Jvm.MethodName)) ∈ lw_all := lw_g (lw_at lw_m8 116 rfl) rfl
theorem q1974 : (Jvm.Cond.instanceMethod ({ cls := "LandMap$Relation", name := "lay", desc := "(LLandMap$Feature;LLandMap$Feature;LLandMap$Laid;)Z" } : Jvm.MethodName)) ∈ lw_all := lw_g (lw_at lw_m8 117 rfl) rfl
theorem q1975 : (Jvm.Cond.selects "LandMap$Relation" ({ cls := "LandMap$Relation", name := "lay", desc := "(LLandMap$Feature;LLandMap$Feature;LLandMap$Laid;)Z" } : Jvm.MethodName) ({ cls := "LandMap$Relation", name := "lay", desc := "(LLandMap$Feature;LLandMap$Feature;LLandMap$Laid;)Z" } : Jvm.MethodName)) ∈ lw_all := lw_g (lw_at lw_m8 118 rfl) rfl
theorem q1976 : (Jvm.Cond.code ({ cls := "LandMap$Relation", name := "lay", desc := "(LLandMap$Feature;LLandMap$Feature;LLandMap$Laid;)Z" } : Jvm.MethodName) prog_17_method_4_code (5 : Nat) (Option.some Jvm.ClassFile.FieldType.boolean)) ∈ lw_all := lw_g (lw_at lw_m8 119 rfl) rfl
theorem q1977 : (Jvm.Cond.methodLink "LandMap$Relation" (33 : Nat) ({ cls := "LandMap$Plane", name := "begin", desc := "()V" } : Jvm.MethodName)) ∈ lw_all := lw_g (lw_at lw_m8 120 rfl) rfl
theorem q1978 : (Jvm.Cond.methodLink "LandMap$Relation" (38 : Nat) ({ cls := "LandMap$Plane", name := "add", desc := "(LLandMap$Feature;II)V" } : Jvm.MethodName)) ∈ lw_all := lw_g (lw_at lw_m8 121 rfl) rfl
theorem q1979 : (Jvm.Cond.methodLink "LandMap$Relation" (42 : Nat) ({ cls := "LandMap$Plane", name := "build", desc := "(Z)Z" } : Jvm.MethodName)) ∈ lw_all := lw_g (lw_at lw_m8 122 rfl) rfl
theorem q1980 : (Jvm.Cond.methodLink "LandMap$Relation" (46 : Nat) ({ cls := "LandMap$Faces", name := "build", desc := "()V" } : Jvm.MethodName)) ∈ lw_all := lw_g (lw_at lw_m8 123 rfl) rfl
theorem q1981 : (Jvm.Cond.methodLink "LandMap$Relation" (53 : Nat) ({ cls := "LandMap$Relation", name := "ofFace", desc := "(II)I" } : Jvm.MethodName)) ∈ lw_all := lw_g (lw_at lw_m8 124 rfl) rfl
theorem q1982 : (Jvm.Cond.privateMethod ({ cls := "LandMap$Relation", name := "ofFace", desc := "(II)I" } : Jvm.MethodName)) ∈ lw_tbl := lw_at lw_m8 125 rfl
theorem q1983 : (Jvm.Cond.instanceMethod ({ cls := "LandMap$Relation", name := "ofFace", desc := "(II)I" } : Jvm.MethodName)) ∈ lw_all := lw_g (lw_at lw_m8 126 rfl) rfl
theorem q1984 : (Jvm.Cond.code ({ cls := "LandMap$Relation", name := "ofFace", desc := "(II)I" } : Jvm.MethodName) prog_17_method_5_code (3 : Nat) (Option.some Jvm.ClassFile.FieldType.int)) ∈ lw_all := lw_g (lw_at lw_m8 127 rfl) rfl
theorem q1985 : (Jvm.Cond.methodLink "LandMap$Relation" (72 : Nat) ({ cls := "LandMap$Plane", name := "isArea", desc := "(I)Z" } : Jvm.MethodName)) ∈ lw_all := lw_g (lw_at lw_m8 128 rfl) rfl
theorem q1986 : (Jvm.Cond.methodLink "LandMap$Relation" (76 : Nat) ({ cls := "LandMap$Faces", name := "isCovered", desc := "(II)Z" } : Jvm.MethodName)) ∈ lw_all := lw_g (lw_at lw_m8 129 rfl) rfl
theorem q1987 : (Jvm.Cond.methodLink "LandMap$Relation" (56 : Nat) ({ cls := "LandMap$Relation", name := "mark", desc := "(III)V" } : Jvm.MethodName)) ∈ lw_all := lw_g (lw_at lw_m8 130 rfl) rfl
theorem q1988 : (Jvm.Cond.privateMethod ({ cls := "LandMap$Relation", name := "mark", desc := "(III)V" } : Jvm.MethodName)) ∈ lw_tbl := lw_at lw_m8 131 rfl
theorem q1989 : (Jvm.Cond.instanceMethod ({ cls := "LandMap$Relation", name := "mark", desc := "(III)V" } : Jvm.MethodName)) ∈ lw_all := lw_g (lw_at lw_m8 132 rfl) rfl
theorem q1990 : (Jvm.Cond.code ({ cls := "LandMap$Relation", name := "mark", desc := "(III)V" } : Jvm.MethodName) prog_17_method_3_code (4 : Nat) (Option.none : Option Jvm.ClassFile.FieldType)) ∈ lw_all := lw_g (lw_at lw_m8 133 rfl) rfl
theorem q1991 : (Jvm.Cond.methodLink "LandMap$Relation" (15 : Nat) ({ cls := "java/lang/Math", name := "max", desc := "(II)I" } : Jvm.MethodName)) ∈ lw_all := lw_g (lw_at lw_m8 134 rfl) rfl
theorem q1992 : (Jvm.Cond.methodLink "LandMap$Relation" (63 : Nat) ({ cls := "LandMap$Relation", name := "ofPiece", desc := "(II)I" } : Jvm.MethodName)) ∈ lw_all := lw_g (lw_at lw_m8 135 rfl) rfl
theorem q1993 : (Jvm.Cond.privateMethod ({ cls := "LandMap$Relation", name := "ofPiece", desc := "(II)I" } : Jvm.MethodName)) ∈ lw_tbl := lw_at lw_m8 136 rfl
theorem q1994 : (Jvm.Cond.instanceMethod ({ cls := "LandMap$Relation", name := "ofPiece", desc := "(II)I" } : Jvm.MethodName)) ∈ lw_all := lw_g (lw_at lw_m8 137 rfl) rfl
theorem q1995 : (Jvm.Cond.code ({ cls := "LandMap$Relation", name := "ofPiece", desc := "(II)I" } : Jvm.MethodName) prog_17_method_6_code (4 : Nat) (Option.some Jvm.ClassFile.FieldType.int)) ∈ lw_all := lw_g (lw_at lw_m8 138 rfl) rfl
theorem q1996 : (Jvm.Cond.methodLink "LandMap$Relation" (89 : Nat) ({ cls := "LandMap$Plane", name := "goes", desc := "(II)Z" } : Jvm.MethodName)) ∈ lw_all := lw_g (lw_at lw_m8 139 rfl) rfl
theorem q1997 : (Jvm.Cond.instanceMethod ({ cls := "LandMap$Plane", name := "goes", desc := "(II)Z" } : Jvm.MethodName)) ∈ lw_all := lw_g (lw_at lw_m8 140 rfl) rfl
theorem q1998 : (Jvm.Cond.selects "LandMap$Plane" ({ cls := "LandMap$Plane", name := "goes", desc := "(II)Z" } : Jvm.MethodName) ({ cls := "LandMap$Plane", name := "goes", desc := "(II)Z" } : Jvm.MethodName)) ∈ lw_all := lw_g (lw_at lw_m8 141 rfl) rfl
theorem q1999 : (Jvm.Cond.code ({ cls := "LandMap$Plane", name := "goes", desc := "(II)Z" } : Jvm.MethodName) prog_15_method_16_code (4 : Nat) (Option.some Jvm.ClassFile.FieldType.boolean)) ∈ lw_all := lw_g (lw_at lw_m8 142 rfl) rfl
theorem q2000 : (Jvm.Cond.methodLink "LandMap$Relation" (92 : Nat) ({ cls := "LandMap$Faces", name := "left", desc := "(I)I" } : Jvm.MethodName)) ∈ lw_all := lw_g (lw_at lw_m8 143 rfl) rfl
theorem q2001 : (Jvm.Cond.methodLink "LandMap$Relation" (69 : Nat) ({ cls := "LandMap$Relation", name := "ofNode", desc := "(II)I" } : Jvm.MethodName)) ∈ lw_all := lw_g (lw_at lw_m8 144 rfl) rfl
theorem q2002 : (Jvm.Cond.privateMethod ({ cls := "LandMap$Relation", name := "ofNode", desc := "(II)I" } : Jvm.MethodName)) ∈ lw_tbl := lw_at lw_m8 145 rfl
theorem q2003 : (Jvm.Cond.instanceMethod ({ cls := "LandMap$Relation", name := "ofNode", desc := "(II)I" } : Jvm.MethodName)) ∈ lw_all := lw_g (lw_at lw_m8 146 rfl) rfl
theorem q2004 : (Jvm.Cond.code ({ cls := "LandMap$Relation", name := "ofNode", desc := "(II)I" } : Jvm.MethodName) prog_17_method_7_code (8 : Nat) (Option.some Jvm.ClassFile.FieldType.int)) ∈ lw_all := lw_g (lw_at lw_m8 147 rfl) rfl
theorem q2005 : (Jvm.Cond.methodLink "LandMap$Relation" (96 : Nat) ({ cls := "LandMap$Relation", name := "ofAreaNode", desc := "(II)I" } : Jvm.MethodName)) ∈ lw_all := lw_g (lw_at lw_m8 148 rfl) rfl
theorem q2006 : (Jvm.Cond.privateMethod ({ cls := "LandMap$Relation", name := "ofAreaNode", desc := "(II)I" } : Jvm.MethodName)) ∈ lw_tbl := lw_at lw_m8 149 rfl
theorem q2007 : (Jvm.Cond.instanceMethod ({ cls := "LandMap$Relation", name := "ofAreaNode", desc := "(II)I" } : Jvm.MethodName)) ∈ lw_all := lw_g (lw_at lw_m8 150 rfl) rfl
theorem q2008 : (Jvm.Cond.code ({ cls := "LandMap$Relation", name := "ofAreaNode", desc := "(II)I" } : Jvm.MethodName) prog_17_method_8_code (5 : Nat) (Option.some Jvm.ClassFile.FieldType.int)) ∈ lw_all := lw_g (lw_at lw_m8 151 rfl) rfl
theorem q2009 : (Jvm.Cond.methodLink "LandMap$Relation" (114 : Nat) ({ cls := "LandMap$Faces", name := "degree", desc := "(I)I" } : Jvm.MethodName)) ∈ lw_all := lw_g (lw_at lw_m8 152 rfl) rfl
theorem q2010 : (Jvm.Cond.methodLink "LandMap$Relation" (120 : Nat) ({ cls := "LandMap$Faces", name := "faceLeftOf", desc := "(II)I" } : Jvm.MethodName)) ∈ lw_all := lw_g (lw_at lw_m8 153 rfl) rfl
theorem q2011 : (Jvm.Cond.methodLink "LandMap$Relation" (117 : Nat) ({ cls := "LandMap$Faces", name := "outOf", desc := "(II)I" } : Jvm.MethodName)) ∈ lw_all := lw_g (lw_at lw_m8 154 rfl) rfl
theorem q2012 : (Jvm.Cond.instanceMethod ({ cls := "LandMap$Faces", name := "outOf", desc := "(II)I" } : Jvm.MethodName)) ∈ lw_all := lw_g (lw_at lw_m8 155 rfl) rfl
theorem q2013 : (Jvm.Cond.selects "LandMap$Faces" ({ cls := "LandMap$Faces", name := "outOf", desc := "(II)I" } : Jvm.MethodName) ({ cls := "LandMap$Faces", name := "outOf", desc := "(II)I" } : Jvm.MethodName)) ∈ lw_all := lw_g (lw_at lw_m8 156 rfl) rfl
theorem q2014 : (Jvm.Cond.code ({ cls := "LandMap$Faces", name := "outOf", desc := "(II)I" } : Jvm.MethodName) prog_6_method_10_code (3 : Nat) (Option.some Jvm.ClassFile.FieldType.int)) ∈ lw_all := lw_g (lw_at lw_m8 157 rfl) rfl
theorem q2015 : (Jvm.Cond.methodLink "LandMap$Relation" (107 : Nat) ({ cls := "LandMap$Feature", name := "rows", desc := "()I" } : Jvm.MethodName)) ∈ lw_all := lw_g (lw_at lw_m8 158 rfl) rfl
theorem q2016 : (Jvm.Cond.methodLink "LandMap" (406 : Nat) ({ cls := "LandMap$Relation", name := "entry", desc := "(II)I" } : Jvm.MethodName)) ∈ lw_all := lw_g (lw_at lw_m8 159 rfl) rfl
theorem q2017 : (Jvm.Cond.instanceMethod ({ cls := "LandMap$Relation", name := "entry", desc := "(II)I" } : Jvm.MethodName)) ∈ lw_all := lw_g (lw_at lw_m8 160 rfl) rfl
theorem q2018 : (Jvm.Cond.selects "LandMap$Relation" ({ cls := "LandMap$Relation", name := "entry", desc := "(II)I" } : Jvm.MethodName) ({ cls := "LandMap$Relation", name := "entry", desc := "(II)I" } : Jvm.MethodName)) ∈ lw_all := lw_g (lw_at lw_m8 161 rfl) rfl
theorem q2019 : (Jvm.Cond.code ({ cls := "LandMap$Relation", name := "entry", desc := "(II)I" } : Jvm.MethodName) prog_17_method_2_code (3 : Nat) (Option.some Jvm.ClassFile.FieldType.int)) ∈ lw_all := lw_g (lw_at lw_m8 162 rfl) rfl
theorem q2020 : (Jvm.Cond.methodLink "LandMapLaw" (128 : Nat) ({ cls := "LandMap", name := "relation", desc := "(III)I" } : Jvm.MethodName)) ∈ lw_all := lw_g (lw_at lw_m8 163 rfl) rfl
theorem q2021 : (Jvm.Cond.instanceMethod ({ cls := "LandMap", name := "relation", desc := "(III)I" } : Jvm.MethodName)) ∈ lw_all := lw_g (lw_at lw_m8 164 rfl) rfl
theorem q2022 : (Jvm.Cond.selects "LandMap" ({ cls := "LandMap", name := "relation", desc := "(III)I" } : Jvm.MethodName) ({ cls := "LandMap", name := "relation", desc := "(III)I" } : Jvm.MethodName)) ∈ lw_all := lw_g (lw_at lw_m8 165 rfl) rfl
theorem q2023 : (Jvm.Cond.code ({ cls := "LandMap", name := "relation", desc := "(III)I" } : Jvm.MethodName) prog_1_method_37_code (6 : Nat) (Option.some Jvm.ClassFile.FieldType.int)) ∈ lw_all := lw_g (lw_at lw_m8 166 rfl) rfl
theorem q2024 : (Jvm.Cond.methodLink "LandMap" (409 : Nat) ({ cls := "LandMap$Relation", name := "has", desc := "(III)Z" } : Jvm.MethodName)) ∈ lw_all := lw_g (lw_at lw_m8 167 rfl) rfl
theorem q2025 : (Jvm.Cond.instanceMethod ({ cls := "LandMap$Relation", name := "has", desc := "(III)Z" } : Jvm.MethodName)) ∈ lw_all := lw_g (lw_at lw_m8 168 rfl) rfl
theorem q2026 : (Jvm.Cond.selects "LandMap$Relation" ({ cls := "LandMap$Relation", name := "has", desc := "(III)Z" } : Jvm.MethodName) ({ cls := "LandMap$Relation", name := "has", desc := "(III)Z" } : Jvm.MethodName)) ∈ lw_all := lw_g (lw_at lw_m8 169 rfl) rfl
theorem q2027 : (Jvm.Cond.code ({ cls := "LandMap$Relation", name := "has", desc := "(III)Z" } : Jvm.MethodName) prog_17_method_11_code (4 : Nat) (Option.some Jvm.ClassFile.FieldType.boolean)) ∈ lw_all := lw_g (lw_at lw_m8 170 rfl) rfl
theorem q2028 : (Jvm.Cond.methodLink "LandMap$Relation" (126 : Nat) ({ cls := "LandMap$Relation", name := "is", desc := "(II)Z" } : Jvm.MethodName)) ∈ lw_all := lw_g (lw_at lw_m8 171 rfl) rfl
theorem q2029 : (Jvm.Cond.privateMethod ({ cls := "LandMap$Relation", name := "is", desc := "(II)Z" } : Jvm.MethodName)) ∈ lw_tbl := lw_at lw_m8 172 rfl
theorem q2030 : (Jvm.Cond.instanceMethod ({ cls := "LandMap$Relation", name := "is", desc := "(II)Z" } : Jvm.MethodName)) ∈ lw_all := lw_g (lw_at lw_m8 173 rfl) rfl
theorem q2031 : (Jvm.Cond.code ({ cls := "LandMap$Relation", name := "is", desc := "(II)Z" } : Jvm.MethodName) prog_17_method_9_code (3 : Nat) (Option.some Jvm.ClassFile.FieldType.boolean)) ∈ lw_all := lw_g (lw_at lw_m8 174 rfl) rfl
theorem q2032 : (Jvm.Cond.methodLink "LandMap$Relation" (123 : Nat) ({ cls := "LandMap$Relation", name := "entry", desc := "(II)I" } : Jvm.MethodName)) ∈ lw_all := lw_g (lw_at lw_m8 175 rfl) rfl
theorem q2033 : (Jvm.Cond.methodLink "LandMap$Relation" (129 : Nat) ({ cls := "LandMap$Relation", name := "areApart", desc := "()Z" } : Jvm.MethodName)) ∈ lw_all := lw_g (lw_at lw_m8 176 rfl) rfl
theorem q2034 : (Jvm.Cond.privateMethod ({ cls := "LandMap$Relation", name := "areApart", desc := "()Z" } : Jvm.MethodName)) ∈ lw_tbl := lw_at lw_m8 177 rfl
theorem q2035 : (Jvm.Cond.instanceMethod ({ cls := "LandMap$Relation", name := "areApart", desc := "()Z" } : Jvm.MethodName)) ∈ lw_all := lw_g (lw_at lw_m8 178 rfl) rfl
theorem q2036 : (Jvm.Cond.code ({ cls := "LandMap$Relation", name := "areApart", desc := "()Z" } : Jvm.MethodName) prog_17_method_10_code (1 : Nat) (Option.some Jvm.ClassFile.FieldType.boolean)) ∈ lw_all := lw_g (lw_at lw_m8 179 rfl) rfl
theorem q2037 : (Jvm.Cond.methodLink "LandMap$Relation" (133 : Nat) ({ cls := "LandMap$Relation", name := "crosses", desc := "(II)Z" } : Jvm.MethodName)) ∈ lw_all := lw_g (lw_at lw_m8 180 rfl) rfl
theorem q2038 : (Jvm.Cond.privateMethod ({ cls := "LandMap$Relation", name := "crosses", desc := "(II)Z" } : Jvm.MethodName)) ∈ lw_tbl := lw_at lw_m8 181 rfl
theorem q2039 : (Jvm.Cond.instanceMethod ({ cls := "LandMap$Relation", name := "crosses", desc := "(II)Z" } : Jvm.MethodName)) ∈ lw_all := lw_g (lw_at lw_m8 182 rfl) rfl
theorem q2040 : (Jvm.Cond.code ({ cls := "LandMap$Relation", name := "crosses", desc := "(II)Z" } : Jvm.MethodName) prog_17_method_12_code (3 : Nat) (Option.some Jvm.ClassFile.FieldType.boolean)) ∈ lw_all := lw_g (lw_at lw_m8 183 rfl) rfl
theorem q2041 : (Jvm.Cond.methodLink "LandMapLaw" (132 : Nat) ({ cls := "LandMap", name := "bar", desc := "()I" } : Jvm.MethodName)) ∈ lw_all := lw_g (lw_at lw_m8 184 rfl) rfl
theorem q2042 : (Jvm.Cond.instanceMethod ({ cls := "LandMap", name := "bar", desc := "()I" } : Jvm.MethodName)) ∈ lw_all := lw_g (lw_at lw_m8 185 rfl) rfl
theorem q2043 : (Jvm.Cond.selects "LandMap" ({ cls := "LandMap", name := "bar", desc := "()I" } : Jvm.MethodName) ({ cls := "LandMap", name := "bar", desc := "()I" } : Jvm.MethodName)) ∈ lw_all := lw_g (lw_at lw_m8 186 rfl) rfl
theorem q2044 : (Jvm.Cond.code ({ cls := "LandMap", name := "bar", desc := "()I" } : Jvm.MethodName) prog_1_method_38_code (1 : Nat) (Option.some Jvm.ClassFile.FieldType.int)) ∈ lw_all := lw_g (lw_at lw_m8 187 rfl) rfl
theorem q2045 : (Jvm.Cond.methodLink "LandMap" (413 : Nat) ({ cls := "LandMap$Roads", name := "bar", desc := "([I[I)Z" } : Jvm.MethodName)) ∈ lw_all := lw_g (lw_at lw_m8 188 rfl) rfl
theorem q2046 : (Jvm.Cond.instanceMethod ({ cls := "LandMap$Roads", name := "bar", desc := "([I[I)Z" } : Jvm.MethodName)) ∈ lw_all := lw_g (lw_at lw_m8 189 rfl) rfl
theorem q2047 : (Jvm.Cond.selects "LandMap$Roads" ({ cls := "LandMap$Roads", name := "bar", desc := "([I[I)Z" } : Jvm.MethodName) ({ cls := "LandMap$Roads", name := "bar", desc := "([I[I)Z" } : Jvm.MethodName)) ∈ lw_all := lw_g (lw_at lw_m8 190 rfl) rfl
theorem q2048 : (Jvm.Cond.code ({ cls := "LandMap$Roads", name := "bar", desc := "([I[I)Z" } : Jvm.MethodName) prog_18_method_2_code (6 : Nat) (Option.some Jvm.ClassFile.FieldType.boolean)) ∈ lw_all := lw_g (lw_at lw_m8 191 rfl) rfl
theorem q2049 : (Jvm.Cond.methodLink "LandMapLaw" (136 : Nat) ({ cls := "LandMap", name := "route", desc := "()J" } : Jvm.MethodName)) ∈ lw_all := lw_g (lw_at lw_m8 192 rfl) rfl
theorem q2050 : (Jvm.Cond.instanceMethod ({ cls := "LandMap", name := "route", desc := "()J" } : Jvm.MethodName)) ∈ lw_all := lw_g (lw_at lw_m8 193 rfl) rfl
theorem q2051 : (Jvm.Cond.selects "LandMap" ({ cls := "LandMap", name := "route", desc := "()J" } : Jvm.MethodName) ({ cls := "LandMap", name := "route", desc := "()J" } : Jvm.MethodName)) ∈ lw_all := lw_g (lw_at lw_m8 194 rfl) rfl
theorem q2052 : (Jvm.Cond.code ({ cls := "LandMap", name := "route", desc := "()J" } : Jvm.MethodName) prog_1_method_39_code (5 : Nat) (Option.some Jvm.ClassFile.FieldType.long)) ∈ lw_all := lw_g (lw_at lw_m8 195 rfl) rfl
theorem q2053 : (Jvm.Cond.methodLink "LandMap" (420 : Nat) ({ cls := "LandMap$Roads", name := "forget", desc := "()V" } : Jvm.MethodName)) ∈ lw_all := lw_g (lw_at lw_m8 196 rfl) rfl
theorem q2054 : (Jvm.Cond.instanceMethod ({ cls := "LandMap$Roads", name := "forget", desc := "()V" } : Jvm.MethodName)) ∈ lw_all := lw_g (lw_at lw_m8 197 rfl) rfl
theorem q2055 : (Jvm.Cond.selects "LandMap$Roads" ({ cls := "LandMap$Roads", name := "forget", desc := "()V" } : Jvm.MethodName) ({ cls := "LandMap$Roads", name := "forget", desc := "()V" } : Jvm.MethodName)) ∈ lw_all := lw_g (lw_at lw_m8 198 rfl) rfl
theorem q2056 : (Jvm.Cond.code ({ cls := "LandMap$Roads", name := "forget", desc := "()V" } : Jvm.MethodName) prog_18_method_6_code (1 : Nat) (Option.none : Option Jvm.ClassFile.FieldType)) ∈ lw_all := lw_g (lw_at lw_m8 199 rfl) rfl
theorem q2057 : (Jvm.Cond.constantLong "LandMap" (423 : Nat) (-13 : Int64)) ∈ lw_all := lw_g (lw_at lw_m8 200 rfl) rfl
theorem q2058 : (Jvm.Cond.methodLink "LandMap" (425 : Nat) ({ cls := "LandMap$Roads", name := "nodeAt", desc := "(II)I" } : Jvm.MethodName)) ∈ lw_all := lw_g (lw_at lw_m8 201 rfl) rfl
theorem q2059 : (Jvm.Cond.instanceMethod ({ cls := "LandMap$Roads", name := "nodeAt", desc := "(II)I" } : Jvm.MethodName)) ∈ lw_all := lw_g (lw_at lw_m8 202 rfl) rfl
theorem q2060 : (Jvm.Cond.selects "LandMap$Roads" ({ cls := "LandMap$Roads", name := "nodeAt", desc := "(II)I" } : Jvm.MethodName) ({ cls := "LandMap$Roads", name := "nodeAt", desc := "(II)I" } : Jvm.MethodName)) ∈ lw_all := lw_g (lw_at lw_m8 203 rfl) rfl
theorem q2061 : (Jvm.Cond.code ({ cls := "LandMap$Roads", name := "nodeAt", desc := "(II)I" } : Jvm.MethodName) prog_18_method_4_code (5 : Nat) (Option.some Jvm.ClassFile.FieldType.int)) ∈ lw_all := lw_g (lw_at lw_m8 204 rfl) rfl
theorem q2062 : (Jvm.Cond.methodLink "LandMap$Roads" (115 : Nat) ({ cls := "LandMap$Plane", name := "find", desc := "(II)I" } : Jvm.MethodName)) ∈ lw_all := lw_g (lw_at lw_m8 205 rfl) rfl
theorem q2063 : (Jvm.Cond.instanceMethod ({ cls := "LandMap$Plane", name := "find", desc := "(II)I" } : Jvm.MethodName)) ∈ lw_all := lw_g (lw_at lw_m8 206 rfl) rfl
theorem q2064 : (Jvm.Cond.selects "LandMap$Plane" ({ cls := "LandMap$Plane", name := "find", desc := "(II)I" } : Jvm.MethodName) ({ cls := "LandMap$Plane", name := "find", desc := "(II)I" } : Jvm.MethodName)) ∈ lw_all := lw_g (lw_at lw_m8 207 rfl) rfl
theorem q2065 : (Jvm.Cond.code ({ cls := "LandMap$Plane", name := "find", desc := "(II)I" } : Jvm.MethodName) prog_15_method_17_code (4 : Nat) (Option.some Jvm.ClassFile.FieldType.int)) ∈ lw_all := lw_g (lw_at lw_m8 208 rfl) rfl
theorem q2066 : (Jvm.Cond.methodLink "LandMap$Roads" (118 : Nat) ({ cls := "LandMap$Faces", name := "degree", desc := "(I)I" } : Jvm.MethodName)) ∈ lw_all := lw_g (lw_at lw_m8 209 rfl) rfl
theorem q2067 : (Jvm.Cond.methodLink "LandMap$Roads" (124 : Nat) ({ cls := "LandMap$Faces", name := "outOf", desc := "(II)I" } : Jvm.MethodName)) ∈ lw_all := lw_g (lw_at lw_m8 210 rfl) rfl
theorem q2068 : (Jvm.Cond.constantLong "LandMap" (428 : Nat) (-1 : Int64)) ∈ lw_all := lw_g (lw_at lw_m8 211 rfl) rfl
theorem q2069 : (Jvm.Cond.methodLink "LandMap" (430 : Nat) ({ cls := "LandMap$Roads", name := "best", desc := "(II)J" } : Jvm.MethodName)) ∈ lw_all := lw_g (lw_at lw_m8 212 rfl) rfl
theorem q2070 : (Jvm.Cond.instanceMethod ({ cls := "LandMap$Roads", name := "best", desc := "(II)J" } : Jvm.MethodName)) ∈ lw_all := lw_g (lw_at lw_m8 213 rfl) rfl
theorem q2071 : (Jvm.Cond.selects "LandMap$Roads" ({ cls := "LandMap$Roads", name := "best", desc := "(II)J" } : Jvm.MethodName) ({ cls := "LandMap$Roads", name := "best", desc := "(II)J" } : Jvm.MethodName)) ∈ lw_all := lw_g (lw_at lw_m8 214 rfl) rfl
theorem q2072 : (Jvm.Cond.code ({ cls := "LandMap$Roads", name := "best", desc := "(II)J" } : Jvm.MethodName) prog_18_method_9_code (6 : Nat) (Option.some Jvm.ClassFile.FieldType.long)) ∈ lw_all := lw_g (lw_at lw_m8 215 rfl) rfl
theorem q2073 : (Jvm.Cond.methodLink "LandMap$Roads" (130 : Nat) ({ cls := "LandMap$Roads", name := "findBars", desc := "()V" } : Jvm.MethodName)) ∈ lw_all := lw_g (lw_at lw_m8 216 rfl) rfl
theorem q2074 : (Jvm.Cond.privateMethod ({ cls := "LandMap$Roads", name := "findBars", desc := "()V" } : Jvm.MethodName)) ∈ lw_tbl := lw_at lw_m8 217 rfl
theorem q2075 : (Jvm.Cond.instanceMethod ({ cls := "LandMap$Roads", name := "findBars", desc := "()V" } : Jvm.MethodName)) ∈ lw_all := lw_g (lw_at lw_m8 218 rfl) rfl
theorem q2076 : (Jvm.Cond.code ({ cls := "LandMap$Roads", name := "findBars", desc := "()V" } : Jvm.MethodName) prog_18_method_7_code (2 : Nat) (Option.none : Option Jvm.ClassFile.FieldType)) ∈ lw_all := lw_g (lw_at lw_m8 219 rfl) rfl
theorem q2077 : (Jvm.Cond.methodLink "LandMap$Roads" (133 : Nat) ({ cls := "LandMap$Heap", name := "clear", desc := "(I)V" } : Jvm.MethodName)) ∈ lw_all := lw_g (lw_at lw_m8 220 rfl) rfl
theorem q2078 : (Jvm.Cond.instanceMethod ({ cls := "LandMap$Heap", name := "clear", desc := "(I)V" } : Jvm.MethodName)) ∈ lw_all := lw_g (lw_at lw_m8 221 rfl) rfl
theorem q2079 : (Jvm.Cond.selects "LandMap$Heap" ({ cls := "LandMap$Heap", name := "clear", desc := "(I)V" } : Jvm.MethodName) ({ cls := "LandMap$Heap", name := "clear", desc := "(I)V" } : Jvm.MethodName)) ∈ lw_all := lw_g (lw_at lw_m8 222 rfl) rfl
theorem q2080 : (Jvm.Cond.code ({ cls := "LandMap$Heap", name := "clear", desc := "(I)V" } : Jvm.MethodName) prog_9_method_2_code (3 : Nat) (Option.none : Option Jvm.ClassFile.FieldType)) ∈ lw_all := lw_g (lw_at lw_m8 223 rfl) rfl
theorem q2081 : (Jvm.Cond.constantLong "LandMap$Heap" (25 : Nat) (9223372036854775807 : Int64)) ∈ lw_all := lw_g (lw_at lw_m8 224 rfl) rfl
theorem q2082 : (Jvm.Cond.methodLink "LandMap$Roads" (136 : Nat) ({ cls := "LandMap$Heap", name := "offer", desc := "(IJI)V" } : Jvm.MethodName)) ∈ lw_all := lw_g (lw_at lw_m8 225 rfl) rfl
theorem q2083 : (Jvm.Cond.instanceMethod ({ cls := "LandMap$Heap", name := "offer", desc := "(IJI)V" } : Jvm.MethodName)) ∈ lw_all := lw_g (lw_at lw_m8 226 rfl) rfl
theorem q2084 : (Jvm.Cond.selects "LandMap$Heap" ({ cls := "LandMap$Heap", name := "offer", desc := "(IJI)V" } : Jvm.MethodName) ({ cls := "LandMap$Heap", name := "offer", desc := "(IJI)V" } : Jvm.MethodName)) ∈ lw_all := lw_g (lw_at lw_m8 227 rfl) rfl
theorem q2085 : (Jvm.Cond.code ({ cls := "LandMap$Heap", name := "offer", desc := "(IJI)V" } : Jvm.MethodName) prog_9_method_6_code (5 : Nat) (Option.none : Option Jvm.ClassFile.FieldType)) ∈ lw_all := lw_g (lw_at lw_m8 228 rfl) rfl
theorem q2086 : (Jvm.Cond.methodLink "LandMap$Heap" (31 : Nat) ({ cls := "LandMap$Heap", name := "rise", desc := "(I)V" } : Jvm.MethodName)) ∈ lw_all := lw_g (lw_at lw_m8 229 rfl) rfl
theorem q2087 : (Jvm.Cond.privateMethod ({ cls := "LandMap$Heap", name := "rise", desc := "(I)V" } : Jvm.MethodName)) ∈ lw_tbl := lw_at lw_m8 230 rfl
theorem q2088 : (Jvm.Cond.instanceMethod ({ cls := "LandMap$Heap", name := "rise", desc := "(I)V" } : Jvm.MethodName)) ∈ lw_all := lw_g (lw_at lw_m8 231 rfl) rfl
theorem q2089 : (Jvm.Cond.code ({ cls := "LandMap$Heap", name := "rise", desc := "(I)V" } : Jvm.MethodName) prog_9_method_8_code (4 : Nat) (Option.none : Option Jvm.ClassFile.FieldType)) ∈ lw_all := lw_g (lw_at lw_m8 232 rfl) rfl
theorem q2090 : (Jvm.Cond.methodLink "LandMap$Heap" (35 : Nat) ({ cls := "LandMap$Heap", name := "isLess", desc := "(II)Z" } : Jvm.MethodName)) ∈ lw_all := lw_g (lw_at lw_m8 233 rfl) rfl
theorem q2091 : (Jvm.Cond.privateMethod ({ cls := "LandMap$Heap", name := "isLess", desc := "(II)Z" } : Jvm.MethodName)) ∈ lw_tbl := lw_at lw_m8 234 rfl
theorem q2092 : (Jvm.Cond.instanceMethod ({ cls := "LandMap$Heap", name := "isLess", desc := "(II)Z" } : Jvm.MethodName)) ∈ lw_all := lw_g (lw_at lw_m8 235 rfl) rfl
theorem q2093 : (Jvm.Cond.code ({ cls := "LandMap$Heap", name := "isLess", desc := "(II)Z" } : Jvm.MethodName) prog_9_method_5_code (3 : Nat) (Option.some Jvm.ClassFile.FieldType.boolean)) ∈ lw_all := lw_g (lw_at lw_m8 236 rfl) rfl
theorem q2094 : (Jvm.Cond.methodLink "LandMap$Heap" (39 : Nat) ({ cls := "LandMap$Heap", name := "put", desc := "(II)V" } : Jvm.MethodName)) ∈ lw_all := lw_g (lw_at lw_m8 237 rfl) rfl
theorem q2095 : (Jvm.Cond.privateMethod ({ cls := "LandMap$Heap", name := "put", desc := "(II)V" } : Jvm.MethodName)) ∈ lw_tbl := lw_at lw_m8 238 rfl
theorem q2096 : (Jvm.Cond.instanceMethod ({ cls := "LandMap$Heap", name := "put", desc := "(II)V" } : Jvm.MethodName)) ∈ lw_all := lw_g (lw_at lw_m8 239 rfl) rfl
theorem q2097 : (Jvm.Cond.code ({ cls := "LandMap$Heap", name := "put", desc := "(II)V" } : Jvm.MethodName) prog_9_method_7_code (3 : Nat) (Option.none : Option Jvm.ClassFile.FieldType)) ∈ lw_all := lw_g (lw_at lw_m9 0 rfl) rfl
theorem q2098 : (Jvm.Cond.methodLink "LandMap$Roads" (140 : Nat) ({ cls := "LandMap$Heap", name := "isEmpty", desc := "()Z" } : Jvm.MethodName)) ∈ lw_all := lw_g (lw_at lw_m9 1 rfl) rfl
theorem q2099 : (Jvm.Cond.instanceMethod ({ cls := "LandMap$Heap", name := "isEmpty", desc := "()Z" } : Jvm.MethodName)) ∈ lw_all := lw_g (lw_at lw_m9 2 rfl) rfl
theorem q2100 : (Jvm.Cond.selects "LandMap$Heap" ({ cls := "LandMap$Heap", name := "isEmpty", desc := "()Z" } : Jvm.MethodName) ({ cls := "LandMap$Heap", name := "isEmpty", desc := "()Z" } : Jvm.MethodName)) ∈ lw_all := lw_g (lw_at lw_m9 3 rfl) rfl
theorem q2101 : (Jvm.Cond.code ({ cls := "LandMap$Heap", name := "isEmpty", desc := "()Z" } : Jvm.MethodName) prog_9_method_3_code (1 : Nat) (Option.some Jvm.ClassFile.FieldType.boolean)) ∈ lw_all := lw_g (lw_at lw_m9 4 rfl) rfl
theorem q2102 : (Jvm.Cond.methodLink "LandMap$Roads" (144 : Nat) ({ cls := "LandMap$Heap", name := "take", desc := "()I" } : Jvm.MethodName)) ∈ lw_all := lw_g (lw_at lw_m9 5 rfl) rfl
theorem q2103 : (Jvm.Cond.instanceMethod ({ cls := "LandMap$Heap", name := "take", desc := "()I" } : Jvm.MethodName)) ∈ lw_all := lw_g (lw_at lw_m9 6 rfl) rfl
theorem q2104 : (Jvm.Cond.selects "LandMap$Heap" ({ cls := "LandMap$Heap", name := "take", desc := "()I" } : Jvm.MethodName) ({ cls := "LandMap$Heap", name := "take", desc := "()I" } : Jvm.MethodName)) ∈ lw_all := lw_g (lw_at lw_m9 7 rfl) rfl
theorem q2105 : (Jvm.Cond.code ({ cls := "LandMap$Heap", name := "take", desc := "()I" } : Jvm.MethodName) prog_9_method_9_code (2 : Nat) (Option.some Jvm.ClassFile.FieldType.int)) ∈ lw_all := lw_g (lw_at lw_m9 8 rfl) rfl
theorem q2106 : (Jvm.Cond.methodLink "LandMap$Heap" (43 : Nat) ({ cls := "LandMap$Heap", name := "sink", desc := "(I)V" } : Jvm.MethodName)) ∈ lw_all := lw_g (lw_at lw_m9 9 rfl) rfl
theorem q2107 : (Jvm.Cond.privateMethod ({ cls := "LandMap$Heap", name := "sink", desc := "(I)V" } : Jvm.MethodName)) ∈ lw_tbl := lw_at lw_m9 10 rfl
theorem q2108 : (Jvm.Cond.instanceMethod ({ cls := "LandMap$Heap", name := "sink", desc := "(I)V" } : Jvm.MethodName)) ∈ lw_all := lw_g (lw_at lw_m9 11 rfl) rfl
theorem q2109 : (Jvm.Cond.code ({ cls := "LandMap$Heap", name := "sink", desc := "(I)V" } : Jvm.MethodName) prog_9_method_10_code (5 : Nat) (Option.none : Option Jvm.ClassFile.FieldType)) ∈ lw_all := lw_g (lw_at lw_m9 12 rfl) rfl
theorem q2110 : (Jvm.Cond.methodLink "LandMap$Roads" (148 : Nat) ({ cls := "LandMap$Roads", name := "settle", desc := "(II)V" } : Jvm.MethodName)) ∈ lw_all := lw_g (lw_at lw_m9 13 rfl) rfl
theorem q2111 : (Jvm.Cond.privateMethod ({ cls := "LandMap$Roads", name := "settle", desc := "(II)V" } : Jvm.MethodName)) ∈ lw_tbl := lw_at lw_m9 14 rfl
theorem q2112 : (Jvm.Cond.instanceMethod ({ cls := "LandMap$Roads", name := "settle", desc := "(II)V" } : Jvm.MethodName)) ∈ lw_all := lw_g (lw_at lw_m9 15 rfl) rfl
theorem q2113 : (Jvm.Cond.code ({ cls := "LandMap$Roads", name := "settle", desc := "(II)V" } : Jvm.MethodName) prog_18_method_10_code (6 : Nat) (Option.none : Option Jvm.ClassFile.FieldType)) ∈ lw_all := lw_g (lw_at lw_m9 16 rfl) rfl
theorem q2114 : (Jvm.Cond.methodLink "LandMap$Roads" (162 : Nat) ({ cls := "LandMap$Faces", name := "from", desc := "(I)I" } : Jvm.MethodName)) ∈ lw_all := lw_g (lw_at lw_m9 17 rfl) rfl
theorem q2115 : (Jvm.Cond.methodLink "LandMap$Roads" (165 : Nat) ({ cls := "LandMap$Faces", name := "to", desc := "(I)I" } : Jvm.MethodName)) ∈ lw_all := lw_g (lw_at lw_m9 18 rfl) rfl
theorem q2116 : (Jvm.Cond.methodLink "LandMap$Roads" (168 : Nat) ({ cls := "LandMap$Roads", name := "isBarred", desc := "(III)Z" } : Jvm.MethodName)) ∈ lw_all := lw_g (lw_at lw_m9 19 rfl) rfl
theorem q2117 : (Jvm.Cond.privateMethod ({ cls := "LandMap$Roads", name := "isBarred", desc := "(III)Z" } : Jvm.MethodName)) ∈ lw_tbl := lw_at lw_m9 20 rfl
theorem q2118 : (Jvm.Cond.instanceMethod ({ cls := "LandMap$Roads", name := "isBarred", desc := "(III)Z" } : Jvm.MethodName)) ∈ lw_all := lw_g (lw_at lw_m9 21 rfl) rfl
theorem q2119 : (Jvm.Cond.code ({ cls := "LandMap$Roads", name := "isBarred", desc := "(III)Z" } : Jvm.MethodName) prog_18_method_8_code (5 : Nat) (Option.some Jvm.ClassFile.FieldType.boolean)) ∈ lw_all := lw_g (lw_at lw_m9 22 rfl) rfl
theorem q2120 : (Jvm.Cond.methodLink "LandMap$Roads" (152 : Nat) ({ cls := "LandMap$Roads", name := "choose", desc := "(II)I" } : Jvm.MethodName)) ∈ lw_all := lw_g (lw_at lw_m9 23 rfl) rfl
theorem q2121 : (Jvm.Cond.privateMethod ({ cls := "LandMap$Roads", name := "choose", desc := "(II)I" } : Jvm.MethodName)) ∈ lw_tbl := lw_at lw_m9 24 rfl
theorem q2122 : (Jvm.Cond.instanceMethod ({ cls := "LandMap$Roads", name := "choose", desc := "(II)I" } : Jvm.MethodName)) ∈ lw_all := lw_g (lw_at lw_m9 25 rfl) rfl
theorem q2123 : (Jvm.Cond.code ({ cls := "LandMap$Roads", name := "choose", desc := "(II)I" } : Jvm.MethodName) prog_18_method_11_code (6 : Nat) (Option.some Jvm.ClassFile.FieldType.int)) ∈ lw_all := lw_g (lw_at lw_m9 26 rfl) rfl
theorem q2124 : (Jvm.Cond.methodLink "LandMap$Roads" (175 : Nat) ({ cls := "LandMap$Heap", name := "isReached", desc := "(I)Z" } : Jvm.MethodName)) ∈ lw_all := lw_g (lw_at lw_m9 27 rfl) rfl
theorem q2125 : (Jvm.Cond.instanceMethod ({ cls := "LandMap$Heap", name := "isReached", desc := "(I)Z" } : Jvm.MethodName)) ∈ lw_all := lw_g (lw_at lw_m9 28 rfl) rfl
theorem q2126 : (Jvm.Cond.selects "LandMap$Heap" ({ cls := "LandMap$Heap", name := "isReached", desc := "(I)Z" } : Jvm.MethodName) ({ cls := "LandMap$Heap", name := "isReached", desc := "(I)Z" } : Jvm.MethodName)) ∈ lw_all := lw_g (lw_at lw_m9 29 rfl) rfl
theorem q2127 : (Jvm.Cond.code ({ cls := "LandMap$Heap", name := "isReached", desc := "(I)Z" } : Jvm.MethodName) prog_9_method_4_code (2 : Nat) (Option.some Jvm.ClassFile.FieldType.boolean)) ∈ lw_all := lw_g (lw_at lw_m9 30 rfl) rfl
theorem q2128 : (Jvm.Cond.methodLink "LandMap$Roads" (179 : Nat) ({ cls := "LandMap$Roads", name := "isBetter", desc := "(II)Z" } : Jvm.MethodName)) ∈ lw_all := lw_g (lw_at lw_m9 31 rfl) rfl
theorem q2129 : (Jvm.Cond.privateMethod ({ cls := "LandMap$Roads", name := "isBetter", desc := "(II)Z" } : Jvm.MethodName)) ∈ lw_tbl := lw_at lw_m9 32 rfl
theorem q2130 : (Jvm.Cond.instanceMethod ({ cls := "LandMap$Roads", name := "isBetter", desc := "(II)Z" } : Jvm.MethodName)) ∈ lw_all := lw_g (lw_at lw_m9 33 rfl) rfl
theorem q2131 : (Jvm.Cond.code ({ cls := "LandMap$Roads", name := "isBetter", desc := "(II)Z" } : Jvm.MethodName) prog_18_method_12_code (7 : Nat) (Option.some Jvm.ClassFile.FieldType.boolean)) ∈ lw_all := lw_g (lw_at lw_m9 34 rfl) rfl
theorem q2132 : (Jvm.Cond.methodLink "LandMap$Roads" (158 : Nat) ({ cls := "LandMap$Roads", name := "tell", desc := "(III)V" } : Jvm.MethodName)) ∈ lw_all := lw_g (lw_at lw_m9 35 rfl) rfl
theorem q2133 : (Jvm.Cond.privateMethod ({ cls := "LandMap$Roads", name := "tell", desc := "(III)V" } : Jvm.MethodName)) ∈ lw_tbl := lw_at lw_m9 36 rfl
theorem q2134 : (Jvm.Cond.instanceMethod ({ cls := "LandMap$Roads", name := "tell", desc := "(III)V" } : Jvm.MethodName)) ∈ lw_all := lw_g (lw_at lw_m9 37 rfl) rfl
theorem q2135 : (Jvm.Cond.code ({ cls := "LandMap$Roads", name := "tell", desc := "(III)V" } : Jvm.MethodName) prog_18_method_13_code (5 : Nat) (Option.none : Option Jvm.ClassFile.FieldType)) ∈ lw_all := lw_g (lw_at lw_m9 38 rfl) rfl
theorem q2136 : (Jvm.Cond.constantLong "LandMap" (434 : Nat) (-3 : Int64)) ∈ lw_all := lw_g (lw_at lw_m9 39 rfl) rfl
theorem q2137 : (Jvm.Cond.methodLink "LandMapLaw" (141 : Nat) ({ cls := "LandMap", name := "routeNode", desc := "(I)I" } : Jvm.MethodName)) ∈ lw_all := lw_g (lw_at lw_m9 40 rfl) rfl
theorem q2138 : (Jvm.Cond.instanceMethod ({ cls := "LandMap", name := "routeNode", desc := "(I)I" } : Jvm.MethodName)) ∈ lw_all := lw_g (lw_at lw_m9 41 rfl) rfl
theorem q2139 : (Jvm.Cond.selects "LandMap" ({ cls := "LandMap", name := "routeNode", desc := "(I)I" } : Jvm.MethodName) ({ cls := "LandMap", name := "routeNode", desc := "(I)I" } : Jvm.MethodName)) ∈ lw_all := lw_g (lw_at lw_m9 42 rfl) rfl
theorem q2140 : (Jvm.Cond.code ({ cls := "LandMap", name := "routeNode", desc := "(I)I" } : Jvm.MethodName) prog_1_method_40_code (2 : Nat) (Option.some Jvm.ClassFile.FieldType.int)) ∈ lw_all := lw_g (lw_at lw_m9 43 rfl) rfl
theorem q2141 : (Jvm.Cond.methodLink "LandMap" (436 : Nat) ({ cls := "LandMap$Roads", name := "nodeOfRow", desc := "(I)I" } : Jvm.MethodName)) ∈ lw_all := lw_g (lw_at lw_m9 44 rfl) rfl
theorem q2142 : (Jvm.Cond.instanceMethod ({ cls := "LandMap$Roads", name := "nodeOfRow", desc := "(I)I" } : Jvm.MethodName)) ∈ lw_all := lw_g (lw_at lw_m9 45 rfl) rfl
theorem q2143 : (Jvm.Cond.selects "LandMap$Roads" ({ cls := "LandMap$Roads", name := "nodeOfRow", desc := "(I)I" } : Jvm.MethodName) ({ cls := "LandMap$Roads", name := "nodeOfRow", desc := "(I)I" } : Jvm.MethodName)) ∈ lw_all := lw_g (lw_at lw_m9 46 rfl) rfl
theorem q2144 : (Jvm.Cond.code ({ cls := "LandMap$Roads", name := "nodeOfRow", desc := "(I)I" } : Jvm.MethodName) prog_18_method_5_code (2 : Nat) (Option.some Jvm.ClassFile.FieldType.int)) ∈ lw_all := lw_g (lw_at lw_m9 47 rfl) rfl
theorem q2145 : (Jvm.Cond.methodLink "LandMapLaw" (145 : Nat) ({ cls := "LandMap", name := "corner", desc := "(II)Z" } : Jvm.MethodName)) ∈ lw_all := lw_g (lw_at lw_m9 48 rfl) rfl
theorem q2146 : (Jvm.Cond.instanceMethod ({ cls := "LandMap", name := "corner", desc := "(II)Z" } : Jvm.MethodName)) ∈ lw_all := lw_g (lw_at lw_m9 49 rfl) rfl
theorem q2147 : (Jvm.Cond.selects "LandMap" ({ cls := "LandMap", name := "corner", desc := "(II)Z" } : Jvm.MethodName) ({ cls := "LandMap", name := "corner", desc := "(II)Z" } : Jvm.MethodName)) ∈ lw_all := lw_g (lw_at lw_m9 50 rfl) rfl
theorem q2148 : (Jvm.Cond.code ({ cls := "LandMap", name := "corner", desc := "(II)Z" } : Jvm.MethodName) prog_1_method_41_code (3 : Nat) (Option.some Jvm.ClassFile.FieldType.boolean)) ∈ lw_all := lw_g (lw_at lw_m9 51 rfl) rfl
theorem q2149 : (Jvm.Cond.methodLink "LandMapLaw" (149 : Nat) ({ cls := "LandMap", name := "raster", desc := "(III)I" } : Jvm.MethodName)) ∈ lw_all := lw_g (lw_at lw_m9 52 rfl) rfl
theorem q2150 : (Jvm.Cond.instanceMethod ({ cls := "LandMap", name := "raster", desc := "(III)I" } : Jvm.MethodName)) ∈ lw_all := lw_g (lw_at lw_m9 53 rfl) rfl
theorem q2151 : (Jvm.Cond.selects "LandMap" ({ cls := "LandMap", name := "raster", desc := "(III)I" } : Jvm.MethodName) ({ cls := "LandMap", name := "raster", desc := "(III)I" } : Jvm.MethodName)) ∈ lw_all := lw_g (lw_at lw_m9 54 rfl) rfl
theorem q2152 : (Jvm.Cond.code ({ cls := "LandMap", name := "raster", desc := "(III)I" } : Jvm.MethodName) prog_1_method_45_code (7 : Nat) (Option.some Jvm.ClassFile.FieldType.int)) ∈ lw_all := lw_g (lw_at lw_m9 55 rfl) rfl
theorem q2153 : (Jvm.Cond.methodLink "LandMap" (450 : Nat) ({ cls := "LandMap", name := "isFull", desc := "()Z" } : Jvm.MethodName)) ∈ lw_all := lw_g (lw_at lw_m9 56 rfl) rfl
theorem q2154 : (Jvm.Cond.privateMethod ({ cls := "LandMap", name := "isFull", desc := "()Z" } : Jvm.MethodName)) ∈ lw_tbl := lw_at lw_m9 57 rfl
theorem q2155 : (Jvm.Cond.instanceMethod ({ cls := "LandMap", name := "isFull", desc := "()Z" } : Jvm.MethodName)) ∈ lw_all := lw_g (lw_at lw_m9 58 rfl) rfl
theorem q2156 : (Jvm.Cond.code ({ cls := "LandMap", name := "isFull", desc := "()Z" } : Jvm.MethodName) prog_1_method_43_code (1 : Nat) (Option.some Jvm.ClassFile.FieldType.boolean)) ∈ lw_all := lw_g (lw_at lw_m9 59 rfl) rfl
theorem q2157 : (Jvm.Cond.classLink "LandMap" (445 : Nat) "LandMap$Raster") ∈ lw_all := lw_g (lw_at lw_m9 60 rfl) rfl
theorem q2158 : (Jvm.Cond.instantiable "LandMap$Raster" (3 : Nat)) ∈ lw_all := lw_g (lw_at lw_m9 61 rfl) rfl
theorem q2159 : (Jvm.Cond.methodLink "LandMap" (454 : Nat) ({ cls := "LandMap$Raster", name := "<init>", desc := "(II)V" } : Jvm.MethodName)) ∈ lw_all := lw_g (lw_at lw_m9 62 rfl) rfl
theorem q2160 : (Jvm.Cond.instanceMethod ({ cls := "LandMap$Raster", name := "<init>", desc := "(II)V" } : Jvm.MethodName)) ∈ lw_all := lw_g (lw_at lw_m9 63 rfl) rfl
theorem q2161 : (Jvm.Cond.code ({ cls := "LandMap$Raster", name := "<init>", desc := "(II)V" } : Jvm.MethodName) prog_16_method_1_code (3 : Nat) (Option.none : Option Jvm.ClassFile.FieldType)) ∈ lw_all := lw_g (lw_at lw_m9 64 rfl) rfl
theorem q2162 : (Jvm.Cond.methodLink "LandMap$Raster" (1 : Nat) ({ cls := "java/lang/Object", name := "<init>", desc := "()V" } : Jvm.MethodName)) ∈ lw_all := lw_g (lw_at lw_m9 65 rfl) rfl
theorem q2163 : (Jvm.Cond.fieldLink "LandMap$Raster" (7 : Nat) "LandMap$Raster" "w" "I") ∈ lw_all := lw_g (lw_at lw_m9 66 rfl) rfl
theorem q2164 : (Jvm.Cond.fieldLink "LandMap$Spread" (54 : Nat) "LandMap$Raster" "w" "I") ∈ lw_all := lw_g (lw_at lw_m9 67 rfl) rfl
theorem q2165 : (Jvm.Cond.fieldLink "LandMap$Algebra" (164 : Nat) "LandMap$Raster" "w" "I") ∈ lw_all := lw_g (lw_at lw_m9 68 rfl) rfl
theorem q2166 : (Jvm.Cond.fieldLink "LandMap" (478 : Nat) "LandMap$Raster" "w" "I") ∈ lw_all := lw_g (lw_at lw_m9 69 rfl) rfl
theorem q2167 : (Jvm.Cond.fieldLink "LandMap$Raster" (13 : Nat) "LandMap$Raster" "h" "I") ∈ lw_all := lw_g (lw_at lw_m9 70 rfl) rfl
theorem q2168 : (Jvm.Cond.fieldLink "LandMap$Spread" (58 : Nat) "LandMap$Raster" "h" "I") ∈ lw_all := lw_g (lw_at lw_m9 71 rfl) rfl
theorem q2169 : (Jvm.Cond.fieldLink "LandMap$Algebra" (168 : Nat) "LandMap$Raster" "h" "I") ∈ lw_all := lw_g (lw_at lw_m9 72 rfl) rfl
theorem q2170 : (Jvm.Cond.fieldLink "LandMap" (481 : Nat) "LandMap$Raster" "h" "I") ∈ lw_all := lw_g (lw_at lw_m9 73 rfl) rfl
theorem q2171 : (Jvm.Cond.fieldLink "LandMap$Raster" (16 : Nat) "LandMap$Raster" "cells" "[J") ∈ lw_all := lw_g (lw_at lw_m9 74 rfl) rfl
theorem q2172 : (Jvm.Cond.fieldLink "LandMap$Spread" (22 : Nat) "LandMap$Raster" "cells" "[J") ∈ lw_all := lw_g (lw_at lw_m9 75 rfl) rfl
theorem q2173 : (Jvm.Cond.fieldLink "LandMap$Algebra" (177 : Nat) "LandMap$Raster" "cells" "[J") ∈ lw_all := lw_g (lw_at lw_m9 76 rfl) rfl
theorem q2174 : (Jvm.Cond.fieldLink "LandMap" (456 : Nat) "LandMap$Raster" "cells" "[J") ∈ lw_all := lw_g (lw_at lw_m9 77 rfl) rfl
theorem q2175 : (Jvm.Cond.laysFinal "LandMap$Raster" "LandMap$Raster" "w" "I") ∈ lw_all := lw_g (lw_at lw_m9 78 rfl) rfl
theorem q2176 : (Jvm.Cond.soleField "LandMap$Raster" "w") ∈ lw_all := lw_g (lw_at lw_m9 79 rfl) rfl
theorem q2177 : (Jvm.Cond.laysFinal "LandMap$Raster" "LandMap$Raster" "h" "I") ∈ lw_all := lw_g (lw_at lw_m9 80 rfl) rfl
theorem q2178 : (Jvm.Cond.soleField "LandMap$Raster" "h") ∈ lw_all := lw_g (lw_at lw_m9 81 rfl) rfl
theorem q2179 : (Jvm.Cond.laysFinal "LandMap$Raster" "LandMap$Raster" "cells" "[J") ∈ lw_all := lw_g (lw_at lw_m9 82 rfl) rfl
theorem q2180 : (Jvm.Cond.soleField "LandMap$Raster" "cells") ∈ lw_all := lw_g (lw_at lw_m9 83 rfl) rfl
theorem q2181 : (Jvm.Cond.superclass "LandMap$Raster" "java/lang/Object") ∈ lw_all := lw_g (lw_at lw_m9 84 rfl) rfl
theorem q2182 : (Jvm.Cond.methodLink "LandMap" (459 : Nat) ({ cls := "LandMap", name := "valueAt", desc := "(II)J" } : Jvm.MethodName)) ∈ lw_all := lw_g (lw_at lw_m9 85 rfl) rfl
theorem q2183 : (Jvm.Cond.privateMethod ({ cls := "LandMap", name := "valueAt", desc := "(II)J" } : Jvm.MethodName)) ∈ lw_tbl := lw_at lw_m9 86 rfl
theorem q2184 : (Jvm.Cond.instanceMethod ({ cls := "LandMap", name := "valueAt", desc := "(II)J" } : Jvm.MethodName)) ∈ lw_all := lw_g (lw_at lw_m9 87 rfl) rfl
theorem q2185 : (Jvm.Cond.code ({ cls := "LandMap", name := "valueAt", desc := "(II)J" } : Jvm.MethodName) prog_1_method_46_code (4 : Nat) (Option.some Jvm.ClassFile.FieldType.long)) ∈ lw_all := lw_g (lw_at lw_m9 88 rfl) rfl
theorem q2186 : (Jvm.Cond.methodLink "LandMap" (466 : Nat) ({ cls := "LandMap$Plane", name := "find", desc := "(II)I" } : Jvm.MethodName)) ∈ lw_all := lw_g (lw_at lw_m9 89 rfl) rfl
theorem q2187 : (Jvm.Cond.constantLong "LandMap" (468 : Nat) (3000000000 : Int64)) ∈ lw_all := lw_g (lw_at lw_m9 90 rfl) rfl
theorem q2188 : (Jvm.Cond.methodLink "LandMap" (462 : Nat) ({ cls := "LandMap", name := "kept", desc := "(LLandMap$Raster;)I" } : Jvm.MethodName)) ∈ lw_all := lw_g (lw_at lw_m9 91 rfl) rfl
theorem q2189 : (Jvm.Cond.privateMethod ({ cls := "LandMap", name := "kept", desc := "(LLandMap$Raster;)I" } : Jvm.MethodName)) ∈ lw_tbl := lw_at lw_m9 92 rfl
theorem q2190 : (Jvm.Cond.instanceMethod ({ cls := "LandMap", name := "kept", desc := "(LLandMap$Raster;)I" } : Jvm.MethodName)) ∈ lw_all := lw_g (lw_at lw_m9 93 rfl) rfl
theorem q2191 : (Jvm.Cond.code ({ cls := "LandMap", name := "kept", desc := "(LLandMap$Raster;)I" } : Jvm.MethodName) prog_1_method_44_code (2 : Nat) (Option.some Jvm.ClassFile.FieldType.int)) ∈ lw_all := lw_g (lw_at lw_m9 94 rfl) rfl
theorem q2192 : (Jvm.Cond.methodLink "LandMap" (447 : Nat) ({ cls := "java/util/ArrayList", name := "add", desc := "(Ljava/lang/Object;)Z" } : Jvm.MethodName)) ∈ lw_all := lw_g (lw_at lw_m9 95 rfl) rfl
theorem q2193 : (Jvm.Cond.methodLink "LandMapLaw" (153 : Nat) ({ cls := "LandMap", name := "cell", desc := "(III)J" } : Jvm.MethodName)) ∈ lw_all := lw_g (lw_at lw_m9 96 rfl) rfl
theorem q2194 : (Jvm.Cond.instanceMethod ({ cls := "LandMap", name := "cell", desc := "(III)J" } : Jvm.MethodName)) ∈ lw_all := lw_g (lw_at lw_m9 97 rfl) rfl
theorem q2195 : (Jvm.Cond.selects "LandMap" ({ cls := "LandMap", name := "cell", desc := "(III)J" } : Jvm.MethodName) ({ cls := "LandMap", name := "cell", desc := "(III)J" } : Jvm.MethodName)) ∈ lw_all := lw_g (lw_at lw_m9 98 rfl) rfl
theorem q2196 : (Jvm.Cond.code ({ cls := "LandMap", name := "cell", desc := "(III)J" } : Jvm.MethodName) prog_1_method_47_code (5 : Nat) (Option.some Jvm.ClassFile.FieldType.long)) ∈ lw_all := lw_g (lw_at lw_m9 99 rfl) rfl
theorem q2197 : (Jvm.Cond.methodLink "LandMap" (474 : Nat) ({ cls := "LandMap", name := "findRaster", desc := "(I)LLandMap$Raster;" } : Jvm.MethodName)) ∈ lw_all := lw_g (lw_at lw_m9 100 rfl) rfl
theorem q2198 : (Jvm.Cond.privateMethod ({ cls := "LandMap", name := "findRaster", desc := "(I)LLandMap$Raster;" } : Jvm.MethodName)) ∈ lw_tbl := lw_at lw_m9 101 rfl
theorem q2199 : (Jvm.Cond.instanceMethod ({ cls := "LandMap", name := "findRaster", desc := "(I)LLandMap$Raster;" } : Jvm.MethodName)) ∈ lw_all := lw_g (lw_at lw_m9 102 rfl) rfl
theorem q2200 : (Jvm.Cond.code ({ cls := "LandMap", name := "findRaster", desc := "(I)LLandMap$Raster;" } : Jvm.MethodName) prog_1_method_42_code (2 : Nat) (Option.some (Jvm.ClassFile.FieldType.object "LandMap$Raster"))) ∈ lw_all := lw_g (lw_at lw_m9 103 rfl) rfl
theorem q2201 : (Jvm.Cond.constantLong "LandMap" (484 : Nat) (4000000000 : Int64)) ∈ lw_all := lw_g (lw_at lw_m9 104 rfl) rfl
theorem q2202 : (Jvm.Cond.methodLink "LandMapLaw" (158 : Nat) ({ cls := "LandMap", name := "rasterSize", desc := "(II)I" } : Jvm.MethodName)) ∈ lw_all := lw_g (lw_at lw_m9 105 rfl) rfl
theorem q2203 : (Jvm.Cond.instanceMethod ({ cls := "LandMap", name := "rasterSize", desc := "(II)I" } : Jvm.MethodName)) ∈ lw_all := lw_g (lw_at lw_m9 106 rfl) rfl
theorem q2204 : (Jvm.Cond.selects "LandMap" ({ cls := "LandMap", name := "rasterSize", desc := "(II)I" } : Jvm.MethodName) ({ cls := "LandMap", name := "rasterSize", desc := "(II)I" } : Jvm.MethodName)) ∈ lw_all := lw_g (lw_at lw_m9 107 rfl) rfl
theorem q2205 : (Jvm.Cond.code ({ cls := "LandMap", name := "rasterSize", desc := "(II)I" } : Jvm.MethodName) prog_1_method_48_code (4 : Nat) (Option.some Jvm.ClassFile.FieldType.int)) ∈ lw_all := lw_g (lw_at lw_m9 108 rfl) rfl
theorem q2206 : (Jvm.Cond.methodLink "LandMap" (486 : Nat) ({ cls := "LandMap$Raster", name := "filled", desc := "()I" } : Jvm.MethodName)) ∈ lw_all := lw_g (lw_at lw_m9 109 rfl) rfl
theorem q2207 : (Jvm.Cond.instanceMethod ({ cls := "LandMap$Raster", name := "filled", desc := "()I" } : Jvm.MethodName)) ∈ lw_all := lw_g (lw_at lw_m9 110 rfl) rfl
theorem q2208 : (Jvm.Cond.selects "LandMap$Raster" ({ cls := "LandMap$Raster", name := "filled", desc := "()I" } : Jvm.MethodName) ({ cls := "LandMap$Raster", name := "filled", desc := "()I" } : Jvm.MethodName)) ∈ lw_all := lw_g (lw_at lw_m9 111 rfl) rfl
theorem q2209 : (Jvm.Cond.code ({ cls := "LandMap$Raster", name := "filled", desc := "()I" } : Jvm.MethodName) prog_16_method_3_code (3 : Nat) (Option.some Jvm.ClassFile.FieldType.int)) ∈ lw_all := lw_g (lw_at lw_m9 112 rfl) rfl
theorem q2210 : (Jvm.Cond.constantLong "LandMap$Raster" (20 : Nat) (3000000000 : Int64)) ∈ lw_all := lw_g (lw_at lw_m9 113 rfl) rfl
theorem q2211 : (Jvm.Cond.methodLink "LandMapLaw" (162 : Nat) ({ cls := "LandMap", name := "algebra", desc := "()I" } : Jvm.MethodName)) ∈ lw_all := lw_g (lw_at lw_m9 114 rfl) rfl
theorem q2212 : (Jvm.Cond.instanceMethod ({ cls := "LandMap", name := "algebra", desc := "()I" } : Jvm.MethodName)) ∈ lw_all := lw_g (lw_at lw_m9 115 rfl) rfl
theorem q2213 : (Jvm.Cond.selects "LandMap" ({ cls := "LandMap", name := "algebra", desc := "()I" } : Jvm.MethodName) ({ cls := "LandMap", name := "algebra", desc := "()I" } : Jvm.MethodName)) ∈ lw_all := lw_g (lw_at lw_m9 116 rfl) rfl
theorem q2214 : (Jvm.Cond.codeWith ({ cls := "LandMap", name := "algebra", desc := "()I" } : Jvm.MethodName) prog_1_method_49_code (3 : Nat) (Option.some Jvm.ClassFile.FieldType.int) [((22 : Nat), (30 : Nat), (33 : Nat), (193 : Nat))]) ∈ lw_all := lw_g (lw_at lw_m9 117 rfl) rfl
theorem q2215 : (Jvm.Cond.methodLink "LandMap" (489 : Nat) ({ cls := "LandMap$Algebra", name := "read", desc := "(I)V" } : Jvm.MethodName)) ∈ lw_all := lw_g (lw_at lw_m9 118 rfl) rfl
theorem q2216 : (Jvm.Cond.instanceMethod ({ cls := "LandMap$Algebra", name := "read", desc := "(I)V" } : Jvm.MethodName)) ∈ lw_all := lw_g (lw_at lw_m9 119 rfl) rfl
theorem q2217 : (Jvm.Cond.selects "LandMap$Algebra" ({ cls := "LandMap$Algebra", name := "read", desc := "(I)V" } : Jvm.MethodName) ({ cls := "LandMap$Algebra", name := "read", desc := "(I)V" } : Jvm.MethodName)) ∈ lw_all := lw_g (lw_at lw_m9 120 rfl) rfl
theorem q2218 : (Jvm.Cond.code ({ cls := "LandMap$Algebra", name := "read", desc := "(I)V" } : Jvm.MethodName) prog_2_method_2_code (2 : Nat) (Option.none : Option Jvm.ClassFile.FieldType)) ∈ lw_all := lw_g (lw_at lw_m9 121 rfl) rfl
theorem q2219 : (Jvm.Cond.methodLink "LandMap$Algebra" (37 : Nat) ({ cls := "LandMap$Algebra", name := "expression", desc := "(I)V" } : Jvm.MethodName)) ∈ lw_all := lw_g (lw_at lw_m9 122 rfl) rfl
theorem q2220 : (Jvm.Cond.privateMethod ({ cls := "LandMap$Algebra", name := "expression", desc := "(I)V" } : Jvm.MethodName)) ∈ lw_tbl := lw_at lw_m9 123 rfl
theorem q2221 : (Jvm.Cond.instanceMethod ({ cls := "LandMap$Algebra", name := "expression", desc := "(I)V" } : Jvm.MethodName)) ∈ lw_all := lw_g (lw_at lw_m9 124 rfl) rfl
theorem q2222 : (Jvm.Cond.code ({ cls := "LandMap$Algebra", name := "expression", desc := "(I)V" } : Jvm.MethodName) prog_2_method_5_code (4 : Nat) (Option.none : Option Jvm.ClassFile.FieldType)) ∈ lw_all := lw_g (lw_at lw_m9 125 rfl) rfl
theorem q2223 : (Jvm.Cond.methodLink "LandMap$Algebra" (54 : Nat) ({ cls := "LandMap$Algebra", name := "comparison", desc := "(I)V" } : Jvm.MethodName)) ∈ lw_all := lw_g (lw_at lw_m9 126 rfl) rfl
theorem q2224 : (Jvm.Cond.privateMethod ({ cls := "LandMap$Algebra", name := "comparison", desc := "(I)V" } : Jvm.MethodName)) ∈ lw_tbl := lw_at lw_m9 127 rfl
theorem q2225 : (Jvm.Cond.instanceMethod ({ cls := "LandMap$Algebra", name := "comparison", desc := "(I)V" } : Jvm.MethodName)) ∈ lw_all := lw_g (lw_at lw_m9 128 rfl) rfl
theorem q2226 : (Jvm.Cond.code ({ cls := "LandMap$Algebra", name := "comparison", desc := "(I)V" } : Jvm.MethodName) prog_2_method_6_code (3 : Nat) (Option.none : Option Jvm.ClassFile.FieldType)) ∈ lw_all := lw_g (lw_at lw_m9 129 rfl) rfl
theorem q2227 : (Jvm.Cond.methodLink "LandMap$Algebra" (68 : Nat) ({ cls := "LandMap$Algebra", name := "sum", desc := "(I)V" } : Jvm.MethodName)) ∈ lw_all := lw_g (lw_at lw_m9 130 rfl) rfl
theorem q2228 : (Jvm.Cond.privateMethod ({ cls := "LandMap$Algebra", name := "sum", desc := "(I)V" } : Jvm.MethodName)) ∈ lw_tbl := lw_at lw_m9 131 rfl
theorem q2229 : (Jvm.Cond.instanceMethod ({ cls := "LandMap$Algebra", name := "sum", desc := "(I)V" } : Jvm.MethodName)) ∈ lw_all := lw_g (lw_at lw_m9 132 rfl) rfl
theorem q2230 : (Jvm.Cond.code ({ cls := "LandMap$Algebra", name := "sum", desc := "(I)V" } : Jvm.MethodName) prog_2_method_7_code (4 : Nat) (Option.none : Option Jvm.ClassFile.FieldType)) ∈ lw_all := lw_g (lw_at lw_m9 133 rfl) rfl
theorem q2231 : (Jvm.Cond.methodLink "LandMap$Algebra" (75 : Nat) ({ cls := "LandMap$Algebra", name := "product", desc := "(I)V" } : Jvm.MethodName)) ∈ lw_all := lw_g (lw_at lw_m9 134 rfl) rfl
theorem q2232 : (Jvm.Cond.privateMethod ({ cls := "LandMap$Algebra", name := "product", desc := "(I)V" } : Jvm.MethodName)) ∈ lw_tbl := lw_at lw_m9 135 rfl
theorem q2233 : (Jvm.Cond.instanceMethod ({ cls := "LandMap$Algebra", name := "product", desc := "(I)V" } : Jvm.MethodName)) ∈ lw_all := lw_g (lw_at lw_m9 136 rfl) rfl
theorem q2234 : (Jvm.Cond.code ({ cls := "LandMap$Algebra", name := "product", desc := "(I)V" } : Jvm.MethodName) prog_2_method_8_code (4 : Nat) (Option.none : Option Jvm.ClassFile.FieldType)) ∈ lw_all := lw_g (lw_at lw_m9 137 rfl) rfl
theorem q2235 : (Jvm.Cond.methodLink "LandMap$Algebra" (78 : Nat) ({ cls := "LandMap$Algebra", name := "unary", desc := "(I)V" } : Jvm.MethodName)) ∈ lw_all := lw_g (lw_at lw_m9 138 rfl) rfl
theorem q2236 : (Jvm.Cond.privateMethod ({ cls := "LandMap$Algebra", name := "unary", desc := "(I)V" } : Jvm.MethodName)) ∈ lw_tbl := lw_at lw_m9 139 rfl
theorem q2237 : (Jvm.Cond.instanceMethod ({ cls := "LandMap$Algebra", name := "unary", desc := "(I)V" } : Jvm.MethodName)) ∈ lw_all := lw_g (lw_at lw_m9 140 rfl) rfl
theorem q2238 : (Jvm.Cond.code ({ cls := "LandMap$Algebra", name := "unary", desc := "(I)V" } : Jvm.MethodName) prog_2_method_9_code (5 : Nat) (Option.none : Option Jvm.ClassFile.FieldType)) ∈ lw_all := lw_g (lw_at lw_m9 141 rfl) rfl
theorem q2239 : (Jvm.Cond.methodLink "LandMap$Algebra" (40 : Nat) ({ cls := "LandMap$Scan", name := "look", desc := "()I" } : Jvm.MethodName)) ∈ lw_all := lw_g (lw_at lw_m9 142 rfl) rfl
theorem q2240 : (Jvm.Cond.methodLink "LandMap$Algebra" (57 : Nat) ({ cls := "LandMap$Algebra", name := "deeper", desc := "(I)I" } : Jvm.MethodName)) ∈ lw_all := lw_g (lw_at lw_m9 143 rfl) rfl
theorem q2241 : (Jvm.Cond.privateMethod ({ cls := "LandMap$Algebra", name := "deeper", desc := "(I)I" } : Jvm.MethodName)) ∈ lw_tbl := lw_at lw_m9 144 rfl
theorem q2242 : (Jvm.Cond.instanceMethod ({ cls := "LandMap$Algebra", name := "deeper", desc := "(I)I" } : Jvm.MethodName)) ∈ lw_all := lw_g (lw_at lw_m9 145 rfl) rfl
theorem q2243 : (Jvm.Cond.code ({ cls := "LandMap$Algebra", name := "deeper", desc := "(I)I" } : Jvm.MethodName) prog_2_method_4_code (2 : Nat) (Option.some Jvm.ClassFile.FieldType.int)) ∈ lw_all := lw_g (lw_at lw_m9 146 rfl) rfl
theorem q2244 : (Jvm.Cond.methodLink "LandMap$Algebra" (46 : Nat) ({ cls := "LandMap$Scan", name := "wrongHere", desc := "()Ljava/lang/IllegalStateException;" } : Jvm.MethodName)) ∈ lw_all := lw_g (lw_at lw_m9 147 rfl) rfl
theorem q2245 : (Jvm.Cond.methodLink "LandMap$Algebra" (64 : Nat) ({ cls := "LandMap$Algebra", name := "add", desc := "(III)V" } : Jvm.MethodName)) ∈ lw_all := lw_g (lw_at lw_m9 148 rfl) rfl
theorem q2246 : (Jvm.Cond.privateMethod ({ cls := "LandMap$Algebra", name := "add", desc := "(III)V" } : Jvm.MethodName)) ∈ lw_tbl := lw_at lw_m9 149 rfl
theorem q2247 : (Jvm.Cond.instanceMethod ({ cls := "LandMap$Algebra", name := "add", desc := "(III)V" } : Jvm.MethodName)) ∈ lw_all := lw_g (lw_at lw_m9 150 rfl) rfl
theorem q2248 : (Jvm.Cond.code ({ cls := "LandMap$Algebra", name := "add", desc := "(III)V" } : Jvm.MethodName) prog_2_method_3_code (6 : Nat) (Option.none : Option Jvm.ClassFile.FieldType)) ∈ lw_all := lw_g (lw_at lw_m9 151 rfl) rfl
theorem q2249 : (Jvm.Cond.methodLink "LandMap$Algebra" (81 : Nat) ({ cls := "LandMap$Scan", name := "expect", desc := "(C)V" } : Jvm.MethodName)) ∈ lw_all := lw_g (lw_at lw_m9 152 rfl) rfl
theorem q2250 : (Jvm.Cond.methodLink "LandMap$Algebra" (85 : Nat) ({ cls := "LandMap$Scan", name := "isNumber", desc := "()Z" } : Jvm.MethodName)) ∈ lw_all := lw_g (lw_at lw_m9 153 rfl) rfl
theorem q2251 : (Jvm.Cond.constant "LandMap$Algebra" (89 : Nat) (999999999 : Int32)) ∈ lw_all := lw_g (lw_at lw_m9 154 rfl) rfl
theorem q2252 : (Jvm.Cond.methodLink "LandMap$Algebra" (90 : Nat) ({ cls := "LandMap$Scan", name := "number", desc := "(IIZ)I" } : Jvm.MethodName)) ∈ lw_all := lw_g (lw_at lw_m9 155 rfl) rfl
theorem q2253 : (Jvm.Cond.methodLink "LandMap$Algebra" (94 : Nat) ({ cls := "LandMap$Scan", name := "word", desc := "()Ljava/lang/String;" } : Jvm.MethodName)) ∈ lw_all := lw_g (lw_at lw_m9 156 rfl) rfl
theorem q2254 : (Jvm.Cond.instanceMethod ({ cls := "LandMap$Scan", name := "word", desc := "()Ljava/lang/String;" } : Jvm.MethodName)) ∈ lw_all := lw_g (lw_at lw_m9 157 rfl) rfl
theorem q2255 : (Jvm.Cond.selects "LandMap$Scan" ({ cls := "LandMap$Scan", name := "word", desc := "()Ljava/lang/String;" } : Jvm.MethodName) ({ cls := "LandMap$Scan", name := "word", desc := "()Ljava/lang/String;" } : Jvm.MethodName)) ∈ lw_all := lw_g (lw_at lw_m9 158 rfl) rfl
theorem q2256 : (Jvm.Cond.code ({ cls := "LandMap$Scan", name := "word", desc := "()Ljava/lang/String;" } : Jvm.MethodName) prog_20_method_12_code (2 : Nat) (Option.some (Jvm.ClassFile.FieldType.object "java/lang/String"))) ∈ lw_all := lw_g (lw_at lw_m9 159 rfl) rfl
theorem q2257 : (Jvm.Cond.classLink "LandMap$Scan" (55 : Nat) "java/lang/StringBuilder") ∈ lw_all := lw_g (lw_at lw_m9 160 rfl) rfl
theorem q2258 : (Jvm.Cond.instantiable "java/lang/StringBuilder" (4 : Nat)) ∈ lw_all := lw_g (lw_at lw_m9 161 rfl) rfl
theorem q2259 : (Jvm.Cond.methodLink "LandMap$Scan" (57 : Nat) ({ cls := "java/lang/StringBuilder", name := "<init>", desc := "(I)V" } : Jvm.MethodName)) ∈ lw_all := lw_g (lw_at lw_m9 162 rfl) rfl
theorem q2260 : (Jvm.Cond.instanceMethod ({ cls := "java/lang/StringBuilder", name := "<init>", desc := "(I)V" } : Jvm.MethodName)) ∈ lw_all := lw_g (lw_at lw_m9 163 rfl) rfl
theorem q2261 : (Jvm.Cond.code ({ cls := "java/lang/StringBuilder", name := "<init>", desc := "(I)V" } : Jvm.MethodName) prog_60_method_2_code (2 : Nat) (Option.none : Option Jvm.ClassFile.FieldType)) ∈ lw_all := lw_g (lw_at lw_m9 164 rfl) rfl
theorem q2262 : (Jvm.Cond.methodLink "java/lang/StringBuilder" (1 : Nat) ({ cls := "java/lang/AbstractStringBuilder", name := "<init>", desc := "(I)V" } : Jvm.MethodName)) ∈ lw_all := lw_g (lw_at lw_m9 165 rfl) rfl
theorem q2263 : (Jvm.Cond.instanceMethod ({ cls := "java/lang/AbstractStringBuilder", name := "<init>", desc := "(I)V" } : Jvm.MethodName)) ∈ lw_all := lw_g (lw_at lw_m9 166 rfl) rfl
theorem q2264 : (Jvm.Cond.code ({ cls := "java/lang/AbstractStringBuilder", name := "<init>", desc := "(I)V" } : Jvm.MethodName) prog_46_method_2_code (2 : Nat) (Option.none : Option Jvm.ClassFile.FieldType)) ∈ lw_all := lw_g (lw_at lw_m9 167 rfl) rfl
theorem q2265 : (Jvm.Cond.methodLink "java/lang/AbstractStringBuilder" (3 : Nat) ({ cls := "java/lang/Object", name := "<init>", desc := "()V" } : Jvm.MethodName)) ∈ lw_all := lw_g (lw_at lw_m9 168 rfl) rfl
theorem q2266 : (Jvm.Cond.fieldLink "java/lang/AbstractStringBuilder" (18 : Nat) "java/lang/String" "COMPACT_STRINGS" "Z") ∈ lw_all := lw_g (lw_at lw_m9 169 rfl) rfl
theorem q2267 : (Jvm.Cond.laysStatic "java/lang/String" "COMPACT_STRINGS" "Z") ∈ lw_tbl := lw_at lw_m9 170 rfl
theorem q2268 : (Jvm.Cond.methodLink "java/lang/AbstractStringBuilder" (26 : Nat) ({ cls := "java/lang/StringUTF16", name := "newBytesFor", desc := "(I)[B" } : Jvm.MethodName)) ∈ lw_all := lw_g (lw_at lw_m9 171 rfl) rfl
theorem q2269 : (Jvm.Cond.static ({ cls := "java/lang/StringUTF16", name := "newBytesFor", desc := "(I)[B" } : Jvm.MethodName)) ∈ lw_all := lw_g (lw_at lw_m9 172 rfl) rfl
theorem q2270 : (Jvm.Cond.code ({ cls := "java/lang/StringUTF16", name := "newBytesFor", desc := "(I)[B" } : Jvm.MethodName) prog_62_method_2_code (1 : Nat) (Option.some (Jvm.ClassFile.FieldType.array Jvm.ClassFile.FieldType.byte))) ∈ lw_all := lw_g (lw_at lw_m9 173 rfl) rfl
theorem q2271 : (Jvm.Cond.methodLink "java/lang/StringUTF16" (11 : Nat) ({ cls := "java/lang/StringUTF16", name := "newBytesLength", desc := "(I)I" } : Jvm.MethodName)) ∈ lw_all := lw_g (lw_at lw_m9 174 rfl) rfl
theorem q2272 : (Jvm.Cond.static ({ cls := "java/lang/StringUTF16", name := "newBytesLength", desc := "(I)I" } : Jvm.MethodName)) ∈ lw_all := lw_g (lw_at lw_m9 175 rfl) rfl
theorem q2273 : (Jvm.Cond.code ({ cls := "java/lang/StringUTF16", name := "newBytesLength", desc := "(I)I" } : Jvm.MethodName) prog_62_method_3_code (1 : Nat) (Option.some Jvm.ClassFile.FieldType.int)) ∈ lw_all := lw_g (lw_at lw_m9 176 rfl) rfl
theorem q2274 : (Jvm.Cond.constant "java/lang/StringUTF16" (20 : Nat) (1073741823 : Int32)) ∈ lw_all := lw_g (lw_at lw_m9 177 rfl) rfl
theorem q2275 : (Jvm.Cond.fieldLink "java/lang/AbstractStringBuilder" (15 : Nat) "java/lang/AbstractStringBuilder" "value" "[B") ∈ lw_all := lw_g (lw_at lw_m9 178 rfl) rfl
theorem q2276 : (Jvm.Cond.fieldLink "java/lang/AbstractStringBuilder" (22 : Nat) "java/lang/AbstractStringBuilder" "coder" "B") ∈ lw_all := lw_g (lw_at lw_m9 179 rfl) rfl
theorem q2277 : (Jvm.Cond.fieldLink "java/lang/String" (1048 : Nat) "java/lang/AbstractStringBuilder" "maybeLatin1" "Z") ∈ lw_all := lw_g (lw_at lw_m9 180 rfl) rfl
theorem q2278 : (Jvm.Cond.fieldLink "java/lang/AbstractStringBuilder" (79 : Nat) "java/lang/AbstractStringBuilder" "count" "I") ∈ lw_all := lw_g (lw_at lw_m9 181 rfl) rfl
theorem q2279 : (Jvm.Cond.lays "java/lang/StringBuilder" "java/lang/AbstractStringBuilder" "value" "[B") ∈ lw_all := lw_g (lw_at lw_m9 182 rfl) rfl
theorem q2280 : (Jvm.Cond.soleField "java/lang/AbstractStringBuilder" "value") ∈ lw_all := lw_g (lw_at lw_m9 183 rfl) rfl
theorem q2281 : (Jvm.Cond.lays "java/lang/StringBuilder" "java/lang/AbstractStringBuilder" "coder" "B") ∈ lw_all := lw_g (lw_at lw_m9 184 rfl) rfl
theorem q2282 : (Jvm.Cond.soleField "java/lang/AbstractStringBuilder" "coder") ∈ lw_all := lw_g (lw_at lw_m9 185 rfl) rfl
theorem q2283 : (Jvm.Cond.lays "java/lang/StringBuilder" "java/lang/AbstractStringBuilder" "maybeLatin1" "Z") ∈ lw_all := lw_g (lw_at lw_m9 186 rfl) rfl
theorem q2284 : (Jvm.Cond.soleField "java/lang/AbstractStringBuilder" "maybeLatin1") ∈ lw_all := lw_g (lw_at lw_m9 187 rfl) rfl
theorem q2285 : (Jvm.Cond.lays "java/lang/StringBuilder" "java/lang/AbstractStringBuilder" "count" "I") ∈ lw_all := lw_g (lw_at lw_m9 188 rfl) rfl
theorem q2286 : (Jvm.Cond.soleField "java/lang/AbstractStringBuilder" "count") ∈ lw_all := lw_g (lw_at lw_m9 189 rfl) rfl
theorem q2287 : (Jvm.Cond.superclass "java/lang/StringBuilder" "java/lang/AbstractStringBuilder") ∈ lw_all := lw_g (lw_at lw_m9 190 rfl) rfl
theorem q2288 : (Jvm.Cond.methodLink "LandMap$Scan" (60 : Nat) ({ cls := "java/lang/StringBuilder", name := "length", desc := "()I" } : Jvm.MethodName)) ∈ lw_all := lw_g (lw_at lw_m9 191 rfl) rfl
theorem q2289 : (Jvm.Cond.instanceMethod ({ cls := "java/lang/StringBuilder", name := "length", desc := "()I" } : Jvm.MethodName)) ∈ lw_all := lw_g (lw_at lw_m9 192 rfl) rfl
theorem q2290 : (Jvm.Cond.selects "java/lang/StringBuilder" ({ cls := "java/lang/StringBuilder", name := "length", desc := "()I" } : Jvm.MethodName) ({ cls := "java/lang/StringBuilder", name := "length", desc := "()I" } : Jvm.MethodName)) ∈ lw_all := lw_g (lw_at lw_m9 193 rfl) rfl
theorem q2291 : (Jvm.Cond.code ({ cls := "java/lang/StringBuilder", name := "length", desc := "()I" } : Jvm.MethodName) prog_60_method_93_code (1 : Nat) (Option.some Jvm.ClassFile.FieldType.int)) ∈ lw_all := lw_g (lw_at lw_m9 194 rfl) rfl
theorem q2292 : (Jvm.Cond.methodLink "java/lang/StringBuilder" (343 : Nat) ({ cls := "java/lang/AbstractStringBuilder", name := "length", desc := "()I" } : Jvm.MethodName)) ∈ lw_all := lw_g (lw_at lw_m9 195 rfl) rfl
theorem q2293 : (Jvm.Cond.instanceMethod ({ cls := "java/lang/AbstractStringBuilder", name := "length", desc := "()I" } : Jvm.MethodName)) ∈ lw_all := lw_g (lw_at lw_m9 196 rfl) rfl
theorem q2294 : (Jvm.Cond.code ({ cls := "java/lang/AbstractStringBuilder", name := "length", desc := "()I" } : Jvm.MethodName) prog_46_method_6_code (1 : Nat) (Option.some Jvm.ClassFile.FieldType.int)) ∈ lw_all := lw_g (lw_at lw_m9 197 rfl) rfl
theorem q2295 : (Jvm.Cond.methodLink "LandMap$Scan" (63 : Nat) ({ cls := "java/lang/StringBuilder", name := "append", desc := "(C)Ljava/lang/StringBuilder;" } : Jvm.MethodName)) ∈ lw_all := lw_g (lw_at lw_m9 198 rfl) rfl
theorem q2296 : (Jvm.Cond.instanceMethod ({ cls := "java/lang/StringBuilder", name := "append", desc := "(C)Ljava/lang/StringBuilder;" } : Jvm.MethodName)) ∈ lw_all := lw_g (lw_at lw_m9 199 rfl) rfl
theorem q2297 : (Jvm.Cond.selects "java/lang/StringBuilder" ({ cls := "java/lang/StringBuilder", name := "append", desc := "(C)Ljava/lang/StringBuilder;" } : Jvm.MethodName) ({ cls := "java/lang/StringBuilder", name := "append", desc := "(C)Ljava/lang/StringBuilder;" } : Jvm.MethodName)) ∈ lw_all := lw_g (lw_at lw_m9 200 rfl) rfl
theorem q2298 : (Jvm.Cond.code ({ cls := "java/lang/StringBuilder", name := "append", desc := "(C)Ljava/lang/StringBuilder;" } : Jvm.MethodName) prog_60_method_14_code (2 : Nat) (Option.some (Jvm.ClassFile.FieldType.object "java/lang/StringBuilder"))) ∈ lw_all := lw_g (lw_at lw_m9 201 rfl) rfl
theorem q2299 : (Jvm.Cond.methodLink "java/lang/StringBuilder" (50 : Nat) ({ cls := "java/lang/AbstractStringBuilder", name := "append", desc := "(C)Ljava/lang/AbstractStringBuilder;" } : Jvm.MethodName)) ∈ lw_all := lw_g (lw_at lw_m9 202 rfl) rfl
theorem q2300 : (Jvm.Cond.instanceMethod ({ cls := "java/lang/AbstractStringBuilder", name := "append", desc := "(C)Ljava/lang/AbstractStringBuilder;" } : Jvm.MethodName)) ∈ lw_all := lw_g (lw_at lw_m9 203 rfl) rfl
theorem q2301 : (Jvm.Cond.code ({ cls := "java/lang/AbstractStringBuilder", name := "append", desc := "(C)Ljava/lang/AbstractStringBuilder;" } : Jvm.MethodName) prog_46_method_31_code (2 : Nat) (Option.some (Jvm.ClassFile.FieldType.object "java/lang/AbstractStringBuilder"))) ∈ lw_all := lw_g (lw_at lw_m9 204 rfl) rfl
theorem q2302 : (Jvm.Cond.methodLink "java/lang/AbstractStringBuilder" (100 : Nat) ({ cls := "java/lang/AbstractStringBuilder", name := "ensureCapacityInternal", desc := "(I)V" } : Jvm.MethodName)) ∈ lw_all := lw_g (lw_at lw_m9 205 rfl) rfl
theorem q2303 : (Jvm.Cond.privateMethod ({ cls := "java/lang/AbstractStringBuilder", name := "ensureCapacityInternal", desc := "(I)V" } : Jvm.MethodName)) ∈ lw_tbl := lw_at lw_m9 206 rfl
theorem q2304 : (Jvm.Cond.instanceMethod ({ cls := "java/lang/AbstractStringBuilder", name := "ensureCapacityInternal", desc := "(I)V" } : Jvm.MethodName)) ∈ lw_all := lw_g (lw_at lw_m9 207 rfl) rfl
theorem q2305 : (Jvm.Cond.code ({ cls := "java/lang/AbstractStringBuilder", name := "ensureCapacityInternal", desc := "(I)V" } : Jvm.MethodName) prog_46_method_9_code (3 : Nat) (Option.none : Option Jvm.ClassFile.FieldType)) ∈ lw_all := lw_g (lw_at lw_m9 208 rfl) rfl
theorem q2306 : (Jvm.Cond.methodLink "java/lang/AbstractStringBuilder" (104 : Nat) ({ cls := "java/lang/AbstractStringBuilder", name := "newCapacity", desc := "(I)I" } : Jvm.MethodName)) ∈ lw_all := lw_g (lw_at lw_m9 209 rfl) rfl
theorem q2307 : (Jvm.Cond.privateMethod ({ cls := "java/lang/AbstractStringBuilder", name := "newCapacity", desc := "(I)I" } : Jvm.MethodName)) ∈ lw_tbl := lw_at lw_m9 210 rfl
theorem q2308 : (Jvm.Cond.instanceMethod ({ cls := "java/lang/AbstractStringBuilder", name := "newCapacity", desc := "(I)I" } : Jvm.MethodName)) ∈ lw_all := lw_g (lw_at lw_m9 211 rfl) rfl
theorem q2309 : (Jvm.Cond.code ({ cls := "java/lang/AbstractStringBuilder", name := "newCapacity", desc := "(I)I" } : Jvm.MethodName) prog_46_method_10_code (6 : Nat) (Option.some Jvm.ClassFile.FieldType.int)) ∈ lw_all := lw_g (lw_at lw_m9 212 rfl) rfl
theorem q2310 : (Jvm.Cond.methodLink "java/lang/AbstractStringBuilder" (114 : Nat) ({ cls := "jdk/internal/util/ArraysSupport", name := "newLength", desc := "(III)I" } : Jvm.MethodName)) ∈ lw_all := lw_g (lw_at lw_m9 213 rfl) rfl
theorem q2311 : (Jvm.Cond.constant "java/lang/AbstractStringBuilder" (39 : Nat) (2147483647 : Int32)) ∈ lw_all := lw_g (lw_at lw_m9 214 rfl) rfl
theorem q2312 : (Jvm.Cond.methodLink "java/lang/AbstractStringBuilder" (108 : Nat) ({ cls := "java/util/Arrays", name := "copyOf", desc := "([BI)[B" } : Jvm.MethodName)) ∈ lw_all := lw_g (lw_at lw_m9 215 rfl) rfl
theorem q2313 : (Jvm.Cond.static ({ cls := "java/util/Arrays", name := "copyOf", desc := "([BI)[B" } : Jvm.MethodName)) ∈ lw_all := lw_g (lw_at lw_m9 216 rfl) rfl
theorem q2314 : (Jvm.Cond.code ({ cls := "java/util/Arrays", name := "copyOf", desc := "([BI)[B" } : Jvm.MethodName) prog_71_method_121_code (3 : Nat) (Option.some (Jvm.ClassFile.FieldType.array Jvm.ClassFile.FieldType.byte))) ∈ lw_all := lw_g (lw_at lw_m9 217 rfl) rfl
theorem q2315 : (Jvm.Cond.methodLink "java/util/Arrays" (310 : Nat) ({ cls := "[B", name := "clone", desc := "()Ljava/lang/Object;" } : Jvm.MethodName)) ∈ lw_all := lw_g (lw_at lw_m9 218 rfl) rfl
theorem q2316 : (Jvm.Cond.sameMethod "[B" "java/lang/Object" "clone" "()Ljava/lang/Object;") ∈ lw_all := lw_g (lw_at lw_m9 219 rfl) rfl
theorem q2317 : (Jvm.Cond.native ({ cls := "java/lang/Object", name := "clone", desc := "()Ljava/lang/Object;" } : Jvm.MethodName)) ∈ lw_all := lw_g (lw_at lw_m9 220 rfl) rfl
theorem q2318 : (Jvm.Cond.instanceMethod ({ cls := "java/lang/Object", name := "clone", desc := "()Ljava/lang/Object;" } : Jvm.MethodName)) ∈ lw_all := lw_g (lw_at lw_m9 221 rfl) rfl
theorem q2319 : (Jvm.Cond.selects "[B" ({ cls := "[B", name := "clone", desc := "()Ljava/lang/Object;" } : Jvm.MethodName) ({ cls := "java/lang/Object", name := "clone", desc := "()Ljava/lang/Object;" } : Jvm.MethodName)) ∈ lw_all := lw_g (lw_at lw_m9 222 rfl) rfl
theorem q2320 : (Jvm.Cond.castable "[B" "java/lang/Cloneable") ∈ lw_tbl := lw_at lw_m9 223 rfl
theorem q2321 : (Jvm.Cond.classLink "java/util/Arrays" (311 : Nat) "[B") ∈ lw_all := lw_g (lw_at lw_m9 224 rfl) rfl
theorem q2322 : (Jvm.Cond.methodLink "java/lang/AbstractStringBuilder" (83 : Nat) ({ cls := "java/lang/AbstractStringBuilder", name := "isLatin1", desc := "()Z" } : Jvm.MethodName)) ∈ lw_all := lw_g (lw_at lw_m9 225 rfl) rfl
theorem q2323 : (Jvm.Cond.instanceMethod ({ cls := "java/lang/AbstractStringBuilder", name := "isLatin1", desc := "()Z" } : Jvm.MethodName)) ∈ lw_all := lw_g (lw_at lw_m9 226 rfl) rfl
theorem q2324 : (Jvm.Cond.sameMethod "java/lang/AbstractStringBuilder" "java/lang/AbstractStringBuilder" "isLatin1" "()Z") ∈ lw_all := lw_g (lw_at lw_m9 227 rfl) rfl
theorem q2325 : (Jvm.Cond.selects "java/lang/StringBuilder" ({ cls := "java/lang/AbstractStringBuilder", name := "isLatin1", desc := "()Z" } : Jvm.MethodName) ({ cls := "java/lang/AbstractStringBuilder", name := "isLatin1", desc := "()Z" } : Jvm.MethodName)) ∈ lw_all := lw_g (lw_at lw_m9 228 rfl) rfl
theorem q2326 : (Jvm.Cond.code ({ cls := "java/lang/AbstractStringBuilder", name := "isLatin1", desc := "()Z" } : Jvm.MethodName) prog_46_method_68_code (1 : Nat) (Option.some Jvm.ClassFile.FieldType.boolean)) ∈ lw_all := lw_g (lw_at lw_m9 229 rfl) rfl
theorem q2327 : (Jvm.Cond.methodLink "java/lang/AbstractStringBuilder" (191 : Nat) ({ cls := "java/lang/StringLatin1", name := "canEncode", desc := "(C)Z" } : Jvm.MethodName)) ∈ lw_all := lw_g (lw_at lw_m9 230 rfl) rfl
theorem q2328 : (Jvm.Cond.static ({ cls := "java/lang/StringLatin1", name := "canEncode", desc := "(C)Z" } : Jvm.MethodName)) ∈ lw_all := lw_g (lw_at lw_m9 231 rfl) rfl
theorem q2329 : (Jvm.Cond.code ({ cls := "java/lang/StringLatin1", name := "canEncode", desc := "(C)Z" } : Jvm.MethodName) prog_61_method_3_code (1 : Nat) (Option.some Jvm.ClassFile.FieldType.boolean)) ∈ lw_all := lw_g (lw_at lw_m9 232 rfl) rfl
theorem q2330 : (Jvm.Cond.methodLink "java/lang/AbstractStringBuilder" (195 : Nat) ({ cls := "java/lang/AbstractStringBuilder", name := "inflate", desc := "()V" } : Jvm.MethodName)) ∈ lw_all := lw_g (lw_at lw_m9 233 rfl) rfl
theorem q2331 : (Jvm.Cond.privateMethod ({ cls := "java/lang/AbstractStringBuilder", name := "inflate", desc := "()V" } : Jvm.MethodName)) ∈ lw_tbl := lw_at lw_m9 234 rfl
theorem q2332 : (Jvm.Cond.instanceMethod ({ cls := "java/lang/AbstractStringBuilder", name := "inflate", desc := "()V" } : Jvm.MethodName)) ∈ lw_all := lw_g (lw_at lw_m9 235 rfl) rfl
theorem q2333 : (Jvm.Cond.code ({ cls := "java/lang/AbstractStringBuilder", name := "inflate", desc := "()V" } : Jvm.MethodName) prog_46_method_11_code (2 : Nat) (Option.none : Option Jvm.ClassFile.FieldType)) ∈ lw_all := lw_g (lw_at lw_m9 236 rfl) rfl
theorem q2334 : (Jvm.Cond.methodLink "java/lang/AbstractStringBuilder" (125 : Nat) ({ cls := "java/lang/StringLatin1", name := "inflate", desc := "([BI[BII)V" } : Jvm.MethodName)) ∈ lw_all := lw_g (lw_at lw_m9 237 rfl) rfl
theorem q2335 : (Jvm.Cond.static ({ cls := "java/lang/StringLatin1", name := "inflate", desc := "([BI[BII)V" } : Jvm.MethodName)) ∈ lw_all := lw_g (lw_at lw_m9 238 rfl) rfl
theorem q2336 : (Jvm.Cond.code ({ cls := "java/lang/StringLatin1", name := "inflate", desc := "([BI[BII)V" } : Jvm.MethodName) prog_61_method_50_code (5 : Nat) (Option.none : Option Jvm.ClassFile.FieldType)) ∈ lw_all := lw_g (lw_at lw_m9 239 rfl) rfl
theorem q2337 : (Jvm.Cond.methodLink "java/lang/StringLatin1" (240 : Nat) ({ cls := "java/lang/StringUTF16", name := "inflate", desc := "([BI[BII)V" } : Jvm.MethodName)) ∈ lw_all := lw_g (lw_at lw_m10 0 rfl) rfl
theorem q2338 : (Jvm.Cond.static ({ cls := "java/lang/StringUTF16", name := "inflate", desc := "([BI[BII)V" } : Jvm.MethodName)) ∈ lw_all := lw_g (lw_at lw_m10 1 rfl) rfl
theorem q2339 : (Jvm.Cond.code ({ cls := "java/lang/StringUTF16", name := "inflate", desc := "([BI[BII)V" } : Jvm.MethodName) prog_62_method_86_code (6 : Nat) (Option.none : Option Jvm.ClassFile.FieldType)) ∈ lw_all := lw_g (lw_at lw_m10 2 rfl) rfl
theorem q2340 : (Jvm.Cond.methodLink "java/lang/StringUTF16" (173 : Nat) ({ cls := "java/lang/StringUTF16", name := "checkBoundsOffCount", desc := "(II[B)V" } : Jvm.MethodName)) ∈ lw_all := lw_g (lw_at lw_m10 3 rfl) rfl
theorem q2341 : (Jvm.Cond.static ({ cls := "java/lang/StringUTF16", name := "checkBoundsOffCount", desc := "(II[B)V" } : Jvm.MethodName)) ∈ lw_all := lw_g (lw_at lw_m10 4 rfl) rfl
theorem q2342 : (Jvm.Cond.code ({ cls := "java/lang/StringUTF16", name := "checkBoundsOffCount", desc := "(II[B)V" } : Jvm.MethodName) prog_62_method_94_code (3 : Nat) (Option.none : Option Jvm.ClassFile.FieldType)) ∈ lw_all := lw_g (lw_at lw_m10 5 rfl) rfl
theorem q2343 : (Jvm.Cond.methodLink "java/lang/StringUTF16" (48 : Nat) ({ cls := "java/lang/StringUTF16", name := "length", desc := "([B)I" } : Jvm.MethodName)) ∈ lw_all := lw_g (lw_at lw_m10 6 rfl) rfl
theorem q2344 : (Jvm.Cond.static ({ cls := "java/lang/StringUTF16", name := "length", desc := "([B)I" } : Jvm.MethodName)) ∈ lw_all := lw_g (lw_at lw_m10 7 rfl) rfl
theorem q2345 : (Jvm.Cond.code ({ cls := "java/lang/StringUTF16", name := "length", desc := "([B)I" } : Jvm.MethodName) prog_62_method_6_code (1 : Nat) (Option.some Jvm.ClassFile.FieldType.int)) ∈ lw_all := lw_g (lw_at lw_m10 8 rfl) rfl
theorem q2346 : (Jvm.Cond.methodLink "java/lang/StringUTF16" (419 : Nat) ({ cls := "java/lang/String", name := "checkBoundsOffCount", desc := "(III)I" } : Jvm.MethodName)) ∈ lw_all := lw_g (lw_at lw_m10 9 rfl) rfl
theorem q2347 : (Jvm.Cond.static ({ cls := "java/lang/String", name := "checkBoundsOffCount", desc := "(III)I" } : Jvm.MethodName)) ∈ lw_all := lw_g (lw_at lw_m10 10 rfl) rfl
theorem q2348 : (Jvm.Cond.code ({ cls := "java/lang/String", name := "checkBoundsOffCount", desc := "(III)I" } : Jvm.MethodName) prog_59_method_157_code (3 : Nat) (Option.some Jvm.ClassFile.FieldType.int)) ∈ lw_all := lw_g (lw_at lw_m10 11 rfl) rfl
theorem q2349 : (Jvm.Cond.fieldLink "java/lang/String" (1053 : Nat) "jdk/internal/util/Preconditions" "SIOOBE_FORMATTER" "Ljava/util/function/BiFunction;") ∈ lw_all := lw_g (lw_at lw_m10 12 rfl) rfl
theorem q2350 : (Jvm.Cond.laysStatic "jdk/internal/util/Preconditions" "SIOOBE_FORMATTER" "Ljava/util/function/BiFunction;") ∈ lw_tbl := lw_at lw_m10 13 rfl
theorem q2351 : (Jvm.Cond.methodLink "java/lang/String" (1065 : Nat) ({ cls := "jdk/internal/util/Preconditions", name := "checkFromIndexSize", desc := "(IIILjava/util/function/BiFunction;)I" } : Jvm.MethodName)) ∈ lw_all := lw_g (lw_at lw_m10 14 rfl) rfl
theorem q2352 : (Jvm.Cond.static ({ cls := "jdk/internal/util/Preconditions", name := "checkFromIndexSize", desc := "(IIILjava/util/function/BiFunction;)I" } : Jvm.MethodName)) ∈ lw_all := lw_g (lw_at lw_m10 15 rfl) rfl
theorem q2353 : (Jvm.Cond.code ({ cls := "jdk/internal/util/Preconditions", name := "checkFromIndexSize", desc := "(IIILjava/util/function/BiFunction;)I" } : Jvm.MethodName) prog_79_method_13_code (4 : Nat) (Option.some Jvm.ClassFile.FieldType.int)) ∈ lw_all := lw_g (lw_at lw_m10 16 rfl) rfl
theorem q2354 : (Jvm.Cond.methodLink "java/lang/StringUTF16" (111 : Nat) ({ cls := "java/lang/StringUTF16", name := "putChar", desc := "([BII)V" } : Jvm.MethodName)) ∈ lw_all := lw_g (lw_at lw_m10 17 rfl) rfl
theorem q2355 : (Jvm.Cond.static ({ cls := "java/lang/StringUTF16", name := "putChar", desc := "([BII)V" } : Jvm.MethodName)) ∈ lw_all := lw_g (lw_at lw_m10 18 rfl) rfl
theorem q2356 : (Jvm.Cond.code ({ cls := "java/lang/StringUTF16", name := "putChar", desc := "([BII)V" } : Jvm.MethodName) prog_62_method_4_code (3 : Nat) (Option.none : Option Jvm.ClassFile.FieldType)) ∈ lw_all := lw_g (lw_at lw_m10 19 rfl) rfl
theorem q2357 : (Jvm.Cond.fieldLink "java/lang/StringUTF16" (44 : Nat) "java/lang/StringUTF16" "$assertionsDisabled" "Z") ∈ lw_all := lw_g (lw_at lw_m10 20 rfl) rfl
theorem q2358 : (Jvm.Cond.laysStatic "java/lang/StringUTF16" "$assertionsDisabled" "Z") ∈ lw_tbl := lw_at lw_m10 21 rfl
theorem q2359 : (Jvm.Cond.fieldLink "java/lang/StringUTF16" (59 : Nat) "java/lang/StringUTF16" "HI_BYTE_SHIFT" "I") ∈ lw_all := lw_g (lw_at lw_m10 22 rfl) rfl
theorem q2360 : (Jvm.Cond.laysStatic "java/lang/StringUTF16" "HI_BYTE_SHIFT" "I") ∈ lw_tbl := lw_at lw_m10 23 rfl
theorem q2361 : (Jvm.Cond.fieldLink "java/lang/StringUTF16" (63 : Nat) "java/lang/StringUTF16" "LO_BYTE_SHIFT" "I") ∈ lw_all := lw_g (lw_at lw_m10 24 rfl) rfl
theorem q2362 : (Jvm.Cond.laysStatic "java/lang/StringUTF16" "LO_BYTE_SHIFT" "I") ∈ lw_tbl := lw_at lw_m10 25 rfl
theorem q2363 : (Jvm.Cond.methodLink "java/lang/AbstractStringBuilder" (197 : Nat) ({ cls := "java/lang/StringUTF16", name := "putCharSB", desc := "([BII)V" } : Jvm.MethodName)) ∈ lw_all := lw_g (lw_at lw_m10 26 rfl) rfl
theorem q2364 : (Jvm.Cond.static ({ cls := "java/lang/StringUTF16", name := "putCharSB", desc := "([BII)V" } : Jvm.MethodName)) ∈ lw_all := lw_g (lw_at lw_m10 27 rfl) rfl
theorem q2365 : (Jvm.Cond.code ({ cls := "java/lang/StringUTF16", name := "putCharSB", desc := "([BII)V" } : Jvm.MethodName) prog_62_method_71_code (3 : Nat) (Option.none : Option Jvm.ClassFile.FieldType)) ∈ lw_all := lw_g (lw_at lw_m10 28 rfl) rfl
theorem q2366 : (Jvm.Cond.methodLink "java/lang/StringUTF16" (67 : Nat) ({ cls := "java/lang/StringUTF16", name := "checkIndex", desc := "(I[B)V" } : Jvm.MethodName)) ∈ lw_all := lw_g (lw_at lw_m10 29 rfl) rfl
theorem q2367 : (Jvm.Cond.static ({ cls := "java/lang/StringUTF16", name := "checkIndex", desc := "(I[B)V" } : Jvm.MethodName)) ∈ lw_all := lw_g (lw_at lw_m10 30 rfl) rfl
theorem q2368 : (Jvm.Cond.code ({ cls := "java/lang/StringUTF16", name := "checkIndex", desc := "(I[B)V" } : Jvm.MethodName) prog_62_method_91_code (2 : Nat) (Option.none : Option Jvm.ClassFile.FieldType)) ∈ lw_all := lw_g (lw_at lw_m10 31 rfl) rfl
theorem q2369 : (Jvm.Cond.methodLink "java/lang/StringUTF16" (414 : Nat) ({ cls := "java/lang/String", name := "checkIndex", desc := "(II)V" } : Jvm.MethodName)) ∈ lw_all := lw_g (lw_at lw_m10 32 rfl) rfl
theorem q2370 : (Jvm.Cond.static ({ cls := "java/lang/String", name := "checkIndex", desc := "(II)V" } : Jvm.MethodName)) ∈ lw_all := lw_g (lw_at lw_m10 33 rfl) rfl
theorem q2371 : (Jvm.Cond.code ({ cls := "java/lang/String", name := "checkIndex", desc := "(II)V" } : Jvm.MethodName) prog_59_method_155_code (2 : Nat) (Option.none : Option Jvm.ClassFile.FieldType)) ∈ lw_all := lw_g (lw_at lw_m10 34 rfl) rfl
theorem q2372 : (Jvm.Cond.methodLink "java/lang/String" (1059 : Nat) ({ cls := "jdk/internal/util/Preconditions", name := "checkIndex", desc := "(IILjava/util/function/BiFunction;)I" } : Jvm.MethodName)) ∈ lw_all := lw_g (lw_at lw_m10 35 rfl) rfl
theorem q2373 : (Jvm.Cond.methodLink "LandMap$Scan" (67 : Nat) ({ cls := "java/lang/StringBuilder", name := "toString", desc := "()Ljava/lang/String;" } : Jvm.MethodName)) ∈ lw_all := lw_g (lw_at lw_m10 36 rfl) rfl
theorem q2374 : (Jvm.Cond.instanceMethod ({ cls := "java/lang/StringBuilder", name := "toString", desc := "()Ljava/lang/String;" } : Jvm.MethodName)) ∈ lw_all := lw_g (lw_at lw_m10 37 rfl) rfl
theorem q2375 : (Jvm.Cond.selects "java/lang/StringBuilder" ({ cls := "java/lang/StringBuilder", name := "toString", desc := "()Ljava/lang/String;" } : Jvm.MethodName) ({ cls := "java/lang/StringBuilder", name := "toString", desc := "()Ljava/lang/String;" } : Jvm.MethodName)) ∈ lw_all := lw_g (lw_at lw_m10 38 rfl) rfl
theorem q2376 : (Jvm.Cond.code ({ cls := "java/lang/StringBuilder", name := "toString", desc := "()Ljava/lang/String;" } : Jvm.MethodName) prog_60_method_42_code (1 : Nat) (Option.some (Jvm.ClassFile.FieldType.object "java/lang/String"))) ∈ lw_all := lw_g (lw_at lw_m10 39 rfl) rfl
theorem q2377 : (Jvm.Cond.classLink "java/lang/StringBuilder" (18 : Nat) "java/lang/String") ∈ lw_all := lw_g (lw_at lw_m10 40 rfl) rfl
theorem q2378 : (Jvm.Cond.instantiable "java/lang/String" (4 : Nat)) ∈ lw_all := lw_g (lw_at lw_m10 41 rfl) rfl
theorem q2379 : (Jvm.Cond.methodLink "java/lang/StringBuilder" (137 : Nat) ({ cls := "java/lang/String", name := "<init>", desc := "(Ljava/lang/StringBuilder;)V" } : Jvm.MethodName)) ∈ lw_all := lw_g (lw_at lw_m10 42 rfl) rfl
theorem q2380 : (Jvm.Cond.instanceMethod ({ cls := "java/lang/String", name := "<init>", desc := "(Ljava/lang/StringBuilder;)V" } : Jvm.MethodName)) ∈ lw_all := lw_g (lw_at lw_m10 43 rfl) rfl
theorem q2381 : (Jvm.Cond.code ({ cls := "java/lang/String", name := "<init>", desc := "(Ljava/lang/StringBuilder;)V" } : Jvm.MethodName) prog_59_method_53_code (2 : Nat) (Option.none : Option Jvm.ClassFile.FieldType)) ∈ lw_all := lw_g (lw_at lw_m10 44 rfl) rfl
theorem q2382 : (Jvm.Cond.methodLink "java/lang/String" (489 : Nat) ({ cls := "java/lang/String", name := "<init>", desc := "(Ljava/lang/AbstractStringBuilder;Ljava/lang/Void;)V" } : Jvm.MethodName)) ∈ lw_all := lw_g (lw_at lw_m10 45 rfl) rfl
theorem q2383 : (Jvm.Cond.instanceMethod ({ cls := "java/lang/String", name := "<init>", desc := "(Ljava/lang/AbstractStringBuilder;Ljava/lang/Void;)V" } : Jvm.MethodName)) ∈ lw_all := lw_g (lw_at lw_m10 46 rfl) rfl
theorem q2384 : (Jvm.Cond.code ({ cls := "java/lang/String", name := "<init>", desc := "(Ljava/lang/AbstractStringBuilder;Ljava/lang/Void;)V" } : Jvm.MethodName) prog_59_method_150_code (5 : Nat) (Option.none : Option Jvm.ClassFile.FieldType)) ∈ lw_all := lw_g (lw_at lw_m10 47 rfl) rfl
theorem q2385 : (Jvm.Cond.methodLink "java/lang/String" (1 : Nat) ({ cls := "java/lang/Object", name := "<init>", desc := "()V" } : Jvm.MethodName)) ∈ lw_all := lw_g (lw_at lw_m10 48 rfl) rfl
theorem q2386 : (Jvm.Cond.methodLink "java/lang/String" (552 : Nat) ({ cls := "java/lang/AbstractStringBuilder", name := "getValue", desc := "()[B" } : Jvm.MethodName)) ∈ lw_all := lw_g (lw_at lw_m10 49 rfl) rfl
theorem q2387 : (Jvm.Cond.instanceMethod ({ cls := "java/lang/AbstractStringBuilder", name := "getValue", desc := "()[B" } : Jvm.MethodName)) ∈ lw_all := lw_g (lw_at lw_m10 50 rfl) rfl
theorem q2388 : (Jvm.Cond.sameMethod "java/lang/AbstractStringBuilder" "java/lang/AbstractStringBuilder" "getValue" "()[B") ∈ lw_all := lw_g (lw_at lw_m10 51 rfl) rfl
theorem q2389 : (Jvm.Cond.selects "java/lang/StringBuilder" ({ cls := "java/lang/AbstractStringBuilder", name := "getValue", desc := "()[B" } : Jvm.MethodName) ({ cls := "java/lang/AbstractStringBuilder", name := "getValue", desc := "()[B" } : Jvm.MethodName)) ∈ lw_all := lw_g (lw_at lw_m10 52 rfl) rfl
theorem q2390 : (Jvm.Cond.code ({ cls := "java/lang/AbstractStringBuilder", name := "getValue", desc := "()[B" } : Jvm.MethodName) prog_46_method_64_code (1 : Nat) (Option.some (Jvm.ClassFile.FieldType.array Jvm.ClassFile.FieldType.byte))) ∈ lw_all := lw_g (lw_at lw_m10 53 rfl) rfl
theorem q2391 : (Jvm.Cond.methodLink "java/lang/String" (549 : Nat) ({ cls := "java/lang/AbstractStringBuilder", name := "length", desc := "()I" } : Jvm.MethodName)) ∈ lw_all := lw_g (lw_at lw_m10 54 rfl) rfl
theorem q2392 : (Jvm.Cond.methodLink "java/lang/String" (1047 : Nat) ({ cls := "java/lang/AbstractStringBuilder", name := "isLatin1", desc := "()Z" } : Jvm.MethodName)) ∈ lw_all := lw_g (lw_at lw_m10 55 rfl) rfl
theorem q2393 : (Jvm.Cond.methodLink "java/lang/String" (54 : Nat) ({ cls := "java/util/Arrays", name := "copyOfRange", desc := "([BII)[B" } : Jvm.MethodName)) ∈ lw_all := lw_g (lw_at lw_m10 56 rfl) rfl
theorem q2394 : (Jvm.Cond.static ({ cls := "java/util/Arrays", name := "copyOfRange", desc := "([BII)[B" } : Jvm.MethodName)) ∈ lw_all := lw_g (lw_at lw_m10 57 rfl) rfl
theorem q2395 : (Jvm.Cond.code ({ cls := "java/util/Arrays", name := "copyOfRange", desc := "([BII)[B" } : Jvm.MethodName) prog_71_method_132_code (3 : Nat) (Option.some (Jvm.ClassFile.FieldType.array Jvm.ClassFile.FieldType.byte))) ∈ lw_all := lw_g (lw_at lw_m10 58 rfl) rfl
theorem q2396 : (Jvm.Cond.methodLink "java/util/Arrays" (339 : Nat) ({ cls := "java/util/Arrays", name := "copyOfRangeByte", desc := "([BII)[B" } : Jvm.MethodName)) ∈ lw_all := lw_g (lw_at lw_m10 59 rfl) rfl
theorem q2397 : (Jvm.Cond.static ({ cls := "java/util/Arrays", name := "copyOfRangeByte", desc := "([BII)[B" } : Jvm.MethodName)) ∈ lw_all := lw_g (lw_at lw_m10 60 rfl) rfl
theorem q2398 : (Jvm.Cond.code ({ cls := "java/util/Arrays", name := "copyOfRangeByte", desc := "([BII)[B" } : Jvm.MethodName) prog_71_method_133_code (5 : Nat) (Option.some (Jvm.ClassFile.FieldType.array Jvm.ClassFile.FieldType.byte))) ∈ lw_all := lw_g (lw_at lw_m10 61 rfl) rfl
theorem q2399 : (Jvm.Cond.methodLink "java/util/Arrays" (343 : Nat) ({ cls := "java/util/Arrays", name := "checkLength", desc := "(II)V" } : Jvm.MethodName)) ∈ lw_all := lw_g (lw_at lw_m10 62 rfl) rfl
theorem q2400 : (Jvm.Cond.static ({ cls := "java/util/Arrays", name := "checkLength", desc := "(II)V" } : Jvm.MethodName)) ∈ lw_all := lw_g (lw_at lw_m10 63 rfl) rfl
theorem q2401 : (Jvm.Cond.code ({ cls := "java/util/Arrays", name := "checkLength", desc := "(II)V" } : Jvm.MethodName) prog_71_method_131_code (2 : Nat) (Option.none : Option Jvm.ClassFile.FieldType)) ∈ lw_all := lw_g (lw_at lw_m10 64 rfl) rfl
theorem q2402 : (Jvm.Cond.fieldLink "java/lang/String" (38 : Nat) "java/lang/String" "COMPACT_STRINGS" "Z") ∈ lw_all := lw_g (lw_at lw_m10 65 rfl) rfl
theorem q2403 : (Jvm.Cond.methodLink "java/lang/String" (1051 : Nat) ({ cls := "java/lang/StringUTF16", name := "compress", desc := "([BII)[B" } : Jvm.MethodName)) ∈ lw_all := lw_g (lw_at lw_m10 66 rfl) rfl
theorem q2404 : (Jvm.Cond.static ({ cls := "java/lang/StringUTF16", name := "compress", desc := "([BII)[B" } : Jvm.MethodName)) ∈ lw_all := lw_g (lw_at lw_m10 67 rfl) rfl
theorem q2405 : (Jvm.Cond.code ({ cls := "java/lang/StringUTF16", name := "compress", desc := "([BII)[B" } : Jvm.MethodName) prog_62_method_17_code (6 : Nat) (Option.some (Jvm.ClassFile.FieldType.array Jvm.ClassFile.FieldType.byte))) ∈ lw_all := lw_g (lw_at lw_m10 68 rfl) rfl
theorem q2406 : (Jvm.Cond.methodLink "java/lang/StringUTF16" (123 : Nat) ({ cls := "java/lang/StringUTF16", name := "compress", desc := "([BI[BII)I" } : Jvm.MethodName)) ∈ lw_all := lw_g (lw_at lw_m10 69 rfl) rfl
theorem q2407 : (Jvm.Cond.static ({ cls := "java/lang/StringUTF16", name := "compress", desc := "([BI[BII)I" } : Jvm.MethodName)) ∈ lw_all := lw_g (lw_at lw_m10 70 rfl) rfl
theorem q2408 : (Jvm.Cond.code ({ cls := "java/lang/StringUTF16", name := "compress", desc := "([BI[BII)I" } : Jvm.MethodName) prog_62_method_22_code (7 : Nat) (Option.some Jvm.ClassFile.FieldType.int)) ∈ lw_all := lw_g (lw_at lw_m10 71 rfl) rfl
theorem q2409 : (Jvm.Cond.methodLink "java/lang/StringUTF16" (71 : Nat) ({ cls := "java/lang/StringUTF16", name := "getChar", desc := "([BI)C" } : Jvm.MethodName)) ∈ lw_all := lw_g (lw_at lw_m10 72 rfl) rfl
theorem q2410 : (Jvm.Cond.static ({ cls := "java/lang/StringUTF16", name := "getChar", desc := "([BI)C" } : Jvm.MethodName)) ∈ lw_all := lw_g (lw_at lw_m10 73 rfl) rfl
theorem q2411 : (Jvm.Cond.code ({ cls := "java/lang/StringUTF16", name := "getChar", desc := "([BI)C" } : Jvm.MethodName) prog_62_method_5_code (2 : Nat) (Option.some Jvm.ClassFile.FieldType.char)) ∈ lw_all := lw_g (lw_at lw_m10 74 rfl) rfl
theorem q2412 : (Jvm.Cond.methodLink "java/lang/StringUTF16" (126 : Nat) ({ cls := "java/util/Arrays", name := "copyOfRange", desc := "([BII)[B" } : Jvm.MethodName)) ∈ lw_all := lw_g (lw_at lw_m10 75 rfl) rfl
theorem q2413 : (Jvm.Cond.methodLink "java/lang/String" (47 : Nat) ({ cls := "java/lang/StringUTF16", name := "coderFromArrayLen", desc := "([BI)B" } : Jvm.MethodName)) ∈ lw_all := lw_g (lw_at lw_m10 76 rfl) rfl
theorem q2414 : (Jvm.Cond.static ({ cls := "java/lang/StringUTF16", name := "coderFromArrayLen", desc := "([BI)B" } : Jvm.MethodName)) ∈ lw_all := lw_g (lw_at lw_m10 77 rfl) rfl
theorem q2415 : (Jvm.Cond.code ({ cls := "java/lang/StringUTF16", name := "coderFromArrayLen", desc := "([BI)B" } : Jvm.MethodName) prog_62_method_15_code (2 : Nat) (Option.some Jvm.ClassFile.FieldType.byte)) ∈ lw_all := lw_g (lw_at lw_m10 78 rfl) rfl
theorem q2416 : (Jvm.Cond.fieldLink "java/lang/String" (9 : Nat) "java/lang/String" "value" "[B") ∈ lw_all := lw_g (lw_at lw_m10 79 rfl) rfl
theorem q2417 : (Jvm.Cond.fieldLink "java/lang/String" (15 : Nat) "java/lang/String" "coder" "B") ∈ lw_all := lw_g (lw_at lw_m10 80 rfl) rfl
theorem q2418 : (Jvm.Cond.fieldLink "java/lang/String" (19 : Nat) "java/lang/String" "hash" "I") ∈ lw_all := lw_g (lw_at lw_m10 81 rfl) rfl
theorem q2419 : (Jvm.Cond.fieldLink "java/lang/String" (23 : Nat) "java/lang/String" "hashIsZero" "Z") ∈ lw_all := lw_g (lw_at lw_m10 82 rfl) rfl
theorem q2420 : (Jvm.Cond.laysFinal "java/lang/String" "java/lang/String" "value" "[B") ∈ lw_all := lw_g (lw_at lw_m10 83 rfl) rfl
theorem q2421 : (Jvm.Cond.soleField "java/lang/String" "value") ∈ lw_all := lw_g (lw_at lw_m10 84 rfl) rfl
theorem q2422 : (Jvm.Cond.laysFinal "java/lang/String" "java/lang/String" "coder" "B") ∈ lw_all := lw_g (lw_at lw_m10 85 rfl) rfl
theorem q2423 : (Jvm.Cond.soleField "java/lang/String" "coder") ∈ lw_all := lw_g (lw_at lw_m10 86 rfl) rfl
theorem q2424 : (Jvm.Cond.lays "java/lang/String" "java/lang/String" "hash" "I") ∈ lw_all := lw_g (lw_at lw_m10 87 rfl) rfl
theorem q2425 : (Jvm.Cond.soleField "java/lang/String" "hash") ∈ lw_all := lw_g (lw_at lw_m10 88 rfl) rfl
theorem q2426 : (Jvm.Cond.lays "java/lang/String" "java/lang/String" "hashIsZero" "Z") ∈ lw_all := lw_g (lw_at lw_m10 89 rfl) rfl
theorem q2427 : (Jvm.Cond.soleField "java/lang/String" "hashIsZero") ∈ lw_all := lw_g (lw_at lw_m10 90 rfl) rfl
theorem q2428 : (Jvm.Cond.superclass "java/lang/String" "java/lang/Object") ∈ lw_all := lw_g (lw_at lw_m10 91 rfl) rfl
theorem q2429 : (Jvm.Cond.methodLink "LandMap$Algebra" (98 : Nat) ({ cls := "java/lang/String", name := "length", desc := "()I" } : Jvm.MethodName)) ∈ lw_all := lw_g (lw_at lw_m10 92 rfl) rfl
theorem q2430 : (Jvm.Cond.instanceMethod ({ cls := "java/lang/String", name := "length", desc := "()I" } : Jvm.MethodName)) ∈ lw_all := lw_g (lw_at lw_m10 93 rfl) rfl
theorem q2431 : (Jvm.Cond.selects "java/lang/String" ({ cls := "java/lang/String", name := "length", desc := "()I" } : Jvm.MethodName) ({ cls := "java/lang/String", name := "length", desc := "()I" } : Jvm.MethodName)) ∈ lw_all := lw_g (lw_at lw_m10 94 rfl) rfl
theorem q2432 : (Jvm.Cond.code ({ cls := "java/lang/String", name := "length", desc := "()I" } : Jvm.MethodName) prog_59_method_54_code (1 : Nat) (Option.some Jvm.ClassFile.FieldType.int)) ∈ lw_all := lw_g (lw_at lw_m10 95 rfl) rfl
theorem q2433 : (Jvm.Cond.methodLink "java/lang/String" (335 : Nat) ({ cls := "java/lang/String", name := "coder", desc := "()B" } : Jvm.MethodName)) ∈ lw_all := lw_g (lw_at lw_m10 96 rfl) rfl
theorem q2434 : (Jvm.Cond.instanceMethod ({ cls := "java/lang/String", name := "coder", desc := "()B" } : Jvm.MethodName)) ∈ lw_all := lw_g (lw_at lw_m10 97 rfl) rfl
theorem q2435 : (Jvm.Cond.selects "java/lang/String" ({ cls := "java/lang/String", name := "coder", desc := "()B" } : Jvm.MethodName) ({ cls := "java/lang/String", name := "coder", desc := "()B" } : Jvm.MethodName)) ∈ lw_all := lw_g (lw_at lw_m10 98 rfl) rfl
theorem q2436 : (Jvm.Cond.code ({ cls := "java/lang/String", name := "coder", desc := "()B" } : Jvm.MethodName) prog_59_method_152_code (1 : Nat) (Option.some Jvm.ClassFile.FieldType.byte)) ∈ lw_all := lw_g (lw_at lw_m10 99 rfl) rfl
theorem q2437 : (Jvm.Cond.methodLink "LandMap$Algebra" (103 : Nat) ({ cls := "java/lang/String", name := "charAt", desc := "(I)C" } : Jvm.MethodName)) ∈ lw_all := lw_g (lw_at lw_m10 100 rfl) rfl
theorem q2438 : (Jvm.Cond.instanceMethod ({ cls := "java/lang/String", name := "charAt", desc := "(I)C" } : Jvm.MethodName)) ∈ lw_all := lw_g (lw_at lw_m10 101 rfl) rfl
theorem q2439 : (Jvm.Cond.selects "java/lang/String" ({ cls := "java/lang/String", name := "charAt", desc := "(I)C" } : Jvm.MethodName) ({ cls := "java/lang/String", name := "charAt", desc := "(I)C" } : Jvm.MethodName)) ∈ lw_all := lw_g (lw_at lw_m10 102 rfl) rfl
theorem q2440 : (Jvm.Cond.code ({ cls := "java/lang/String", name := "charAt", desc := "(I)C" } : Jvm.MethodName) prog_59_method_56_code (2 : Nat) (Option.some Jvm.ClassFile.FieldType.char)) ∈ lw_all := lw_g (lw_at lw_m10 103 rfl) rfl
theorem q2441 : (Jvm.Cond.methodLink "java/lang/String" (492 : Nat) ({ cls := "java/lang/String", name := "isLatin1", desc := "()Z" } : Jvm.MethodName)) ∈ lw_all := lw_g (lw_at lw_m10 104 rfl) rfl
theorem q2442 : (Jvm.Cond.instanceMethod ({ cls := "java/lang/String", name := "isLatin1", desc := "()Z" } : Jvm.MethodName)) ∈ lw_all := lw_g (lw_at lw_m10 105 rfl) rfl
theorem q2443 : (Jvm.Cond.selects "java/lang/String" ({ cls := "java/lang/String", name := "isLatin1", desc := "()Z" } : Jvm.MethodName) ({ cls := "java/lang/String", name := "isLatin1", desc := "()Z" } : Jvm.MethodName)) ∈ lw_all := lw_g (lw_at lw_m10 106 rfl) rfl
theorem q2444 : (Jvm.Cond.code ({ cls := "java/lang/String", name := "isLatin1", desc := "()Z" } : Jvm.MethodName) prog_59_method_154_code (1 : Nat) (Option.some Jvm.ClassFile.FieldType.boolean)) ∈ lw_all := lw_g (lw_at lw_m10 107 rfl) rfl
theorem q2445 : (Jvm.Cond.methodLink "java/lang/String" (495 : Nat) ({ cls := "java/lang/StringLatin1", name := "charAt", desc := "([BI)C" } : Jvm.MethodName)) ∈ lw_all := lw_g (lw_at lw_m10 108 rfl) rfl
theorem q2446 : (Jvm.Cond.static ({ cls := "java/lang/StringLatin1", name := "charAt", desc := "([BI)C" } : Jvm.MethodName)) ∈ lw_all := lw_g (lw_at lw_m10 109 rfl) rfl
theorem q2447 : (Jvm.Cond.code ({ cls := "java/lang/StringLatin1", name := "charAt", desc := "([BI)C" } : Jvm.MethodName) prog_61_method_2_code (2 : Nat) (Option.some Jvm.ClassFile.FieldType.char)) ∈ lw_all := lw_g (lw_at lw_m10 110 rfl) rfl
theorem q2448 : (Jvm.Cond.methodLink "java/lang/StringLatin1" (9 : Nat) ({ cls := "java/lang/String", name := "checkIndex", desc := "(II)V" } : Jvm.MethodName)) ∈ lw_all := lw_g (lw_at lw_m10 111 rfl) rfl
theorem q2449 : (Jvm.Cond.methodLink "java/lang/String" (498 : Nat) ({ cls := "java/lang/StringUTF16", name := "charAt", desc := "([BI)C" } : Jvm.MethodName)) ∈ lw_all := lw_g (lw_at lw_m10 112 rfl) rfl
theorem q2450 : (Jvm.Cond.static ({ cls := "java/lang/StringUTF16", name := "charAt", desc := "([BI)C" } : Jvm.MethodName)) ∈ lw_all := lw_g (lw_at lw_m10 113 rfl) rfl
theorem q2451 : (Jvm.Cond.code ({ cls := "java/lang/StringUTF16", name := "charAt", desc := "([BI)C" } : Jvm.MethodName) prog_62_method_83_code (2 : Nat) (Option.some Jvm.ClassFile.FieldType.char)) ∈ lw_all := lw_g (lw_at lw_m10 114 rfl) rfl
theorem q2452 : (Jvm.Cond.methodLink "LandMap$Algebra" (107 : Nat) ({ cls := "LandMap$Algebra", name := "raster", desc := "(II)V" } : Jvm.MethodName)) ∈ lw_all := lw_g (lw_at lw_m10 115 rfl) rfl
theorem q2453 : (Jvm.Cond.privateMethod ({ cls := "LandMap$Algebra", name := "raster", desc := "(II)V" } : Jvm.MethodName)) ∈ lw_tbl := lw_at lw_m10 116 rfl
theorem q2454 : (Jvm.Cond.instanceMethod ({ cls := "LandMap$Algebra", name := "raster", desc := "(II)V" } : Jvm.MethodName)) ∈ lw_all := lw_g (lw_at lw_m10 117 rfl) rfl
theorem q2455 : (Jvm.Cond.code ({ cls := "LandMap$Algebra", name := "raster", desc := "(II)V" } : Jvm.MethodName) prog_2_method_10_code (4 : Nat) (Option.none : Option Jvm.ClassFile.FieldType)) ∈ lw_all := lw_g (lw_at lw_m10 118 rfl) rfl
theorem q2456 : (Jvm.Cond.methodLink "LandMap$Algebra" (115 : Nat) ({ cls := "java/util/ArrayList", name := "size", desc := "()I" } : Jvm.MethodName)) ∈ lw_all := lw_g (lw_at lw_m10 119 rfl) rfl
theorem q2457 : (Jvm.Cond.methodLink "LandMap$Algebra" (50 : Nat) ({ cls := "LandMap$Scan", name := "wrong", desc := "(I)Ljava/lang/IllegalStateException;" } : Jvm.MethodName)) ∈ lw_all := lw_g (lw_at lw_m10 120 rfl) rfl
theorem q2458 : (Jvm.Cond.methodLink "LandMap$Algebra" (117 : Nat) ({ cls := "java/util/ArrayList", name := "get", desc := "(I)Ljava/lang/Object;" } : Jvm.MethodName)) ∈ lw_all := lw_g (lw_at lw_m10 121 rfl) rfl
theorem q2459 : (Jvm.Cond.classLink "LandMap$Algebra" (121 : Nat) "LandMap$Raster") ∈ lw_all := lw_g (lw_at lw_m10 122 rfl) rfl
theorem q2460 : (Jvm.Cond.methodLink "LandMap$Algebra" (123 : Nat) ({ cls := "LandMap$Raster", name := "isLike", desc := "(LLandMap$Raster;)Z" } : Jvm.MethodName)) ∈ lw_all := lw_g (lw_at lw_m10 123 rfl) rfl
theorem q2461 : (Jvm.Cond.instanceMethod ({ cls := "LandMap$Raster", name := "isLike", desc := "(LLandMap$Raster;)Z" } : Jvm.MethodName)) ∈ lw_all := lw_g (lw_at lw_m10 124 rfl) rfl
theorem q2462 : (Jvm.Cond.selects "LandMap$Raster" ({ cls := "LandMap$Raster", name := "isLike", desc := "(LLandMap$Raster;)Z" } : Jvm.MethodName) ({ cls := "LandMap$Raster", name := "isLike", desc := "(LLandMap$Raster;)Z" } : Jvm.MethodName)) ∈ lw_all := lw_g (lw_at lw_m10 125 rfl) rfl
theorem q2463 : (Jvm.Cond.code ({ cls := "LandMap$Raster", name := "isLike", desc := "(LLandMap$Raster;)Z" } : Jvm.MethodName) prog_16_method_2_code (2 : Nat) (Option.some Jvm.ClassFile.FieldType.boolean)) ∈ lw_all := lw_g (lw_at lw_m10 126 rfl) rfl
theorem q2464 : (Jvm.Cond.methodLink "LandMap$Algebra" (111 : Nat) ({ cls := "LandMap$Algebra", name := "called", desc := "(Ljava/lang/String;II)V" } : Jvm.MethodName)) ∈ lw_all := lw_g (lw_at lw_m10 127 rfl) rfl
theorem q2465 : (Jvm.Cond.privateMethod ({ cls := "LandMap$Algebra", name := "called", desc := "(Ljava/lang/String;II)V" } : Jvm.MethodName)) ∈ lw_tbl := lw_at lw_m10 128 rfl
theorem q2466 : (Jvm.Cond.instanceMethod ({ cls := "LandMap$Algebra", name := "called", desc := "(Ljava/lang/String;II)V" } : Jvm.MethodName)) ∈ lw_all := lw_g (lw_at lw_m10 129 rfl) rfl
theorem q2467 : (Jvm.Cond.code ({ cls := "LandMap$Algebra", name := "called", desc := "(Ljava/lang/String;II)V" } : Jvm.MethodName) prog_2_method_12_code (8 : Nat) (Option.none : Option Jvm.ClassFile.FieldType)) ∈ lw_all := lw_g (lw_at lw_m10 130 rfl) rfl
theorem q2468 : (Jvm.Cond.methodLink "LandMap$Algebra" (150 : Nat) ({ cls := "LandMap$Algebra", name := "named", desc := "(Ljava/lang/String;)I" } : Jvm.MethodName)) ∈ lw_all := lw_g (lw_at lw_m10 131 rfl) rfl
theorem q2469 : (Jvm.Cond.static ({ cls := "LandMap$Algebra", name := "named", desc := "(Ljava/lang/String;)I" } : Jvm.MethodName)) ∈ lw_all := lw_g (lw_at lw_m10 132 rfl) rfl
theorem q2470 : (Jvm.Cond.code ({ cls := "LandMap$Algebra", name := "named", desc := "(Ljava/lang/String;)I" } : Jvm.MethodName) prog_2_method_11_code (3 : Nat) (Option.some Jvm.ClassFile.FieldType.int)) ∈ lw_all := lw_g (lw_at lw_m10 133 rfl) rfl
theorem q2471 : (Jvm.Cond.methodLink "LandMap$Algebra" (127 : Nat) ({ cls := "java/lang/String", name := "hashCode", desc := "()I" } : Jvm.MethodName)) ∈ lw_all := lw_g (lw_at lw_m10 134 rfl) rfl
theorem q2472 : (Jvm.Cond.instanceMethod ({ cls := "java/lang/String", name := "hashCode", desc := "()I" } : Jvm.MethodName)) ∈ lw_all := lw_g (lw_at lw_m10 135 rfl) rfl
theorem q2473 : (Jvm.Cond.selects "java/lang/String" ({ cls := "java/lang/String", name := "hashCode", desc := "()I" } : Jvm.MethodName) ({ cls := "java/lang/String", name := "hashCode", desc := "()I" } : Jvm.MethodName)) ∈ lw_all := lw_g (lw_at lw_m10 136 rfl) rfl
theorem q2474 : (Jvm.Cond.code ({ cls := "java/lang/String", name := "hashCode", desc := "()I" } : Jvm.MethodName) prog_59_method_78_code (2 : Nat) (Option.some Jvm.ClassFile.FieldType.int)) ∈ lw_all := lw_g (lw_at lw_m10 137 rfl) rfl
theorem q2475 : (Jvm.Cond.methodLink "java/lang/String" (628 : Nat) ({ cls := "java/lang/StringLatin1", name := "hashCode", desc := "([B)I" } : Jvm.MethodName)) ∈ lw_all := lw_g (lw_at lw_m10 138 rfl) rfl
theorem q2476 : (Jvm.Cond.static ({ cls := "java/lang/StringLatin1", name := "hashCode", desc := "([B)I" } : Jvm.MethodName)) ∈ lw_all := lw_g (lw_at lw_m10 139 rfl) rfl
theorem q2477 : (Jvm.Cond.code ({ cls := "java/lang/StringLatin1", name := "hashCode", desc := "([B)I" } : Jvm.MethodName) prog_61_method_21_code (1 : Nat) (Option.some Jvm.ClassFile.FieldType.int)) ∈ lw_all := lw_g (lw_at lw_m10 140 rfl) rfl
theorem q2478 : (Jvm.Cond.methodLink "java/lang/StringLatin1" (84 : Nat) ({ cls := "jdk/internal/util/ArraysSupport", name := "vectorizedHashCode", desc := "(Ljava/lang/Object;IIII)I" } : Jvm.MethodName)) ∈ lw_all := lw_g (lw_at lw_m10 141 rfl) rfl
theorem q2479 : (Jvm.Cond.static ({ cls := "jdk/internal/util/ArraysSupport", name := "vectorizedHashCode", desc := "(Ljava/lang/Object;IIII)I" } : Jvm.MethodName)) ∈ lw_all := lw_g (lw_at lw_m10 142 rfl) rfl
theorem q2480 : (Jvm.Cond.code ({ cls := "jdk/internal/util/ArraysSupport", name := "vectorizedHashCode", desc := "(Ljava/lang/Object;IIII)I" } : Jvm.MethodName) prog_78_method_4_code (5 : Nat) (Option.some Jvm.ClassFile.FieldType.int)) ∈ lw_all := lw_g (lw_at lw_m10 143 rfl) rfl
theorem q2481 : (Jvm.Cond.classLink "jdk/internal/util/ArraysSupport" (60 : Nat) "[B") ∈ lw_all := lw_g (lw_at lw_m10 144 rfl) rfl
theorem q2482 : (Jvm.Cond.methodLink "jdk/internal/util/ArraysSupport" (62 : Nat) ({ cls := "jdk/internal/util/ArraysSupport", name := "signedHashCode", desc := "(I[BII)I" } : Jvm.MethodName)) ∈ lw_all := lw_g (lw_at lw_m10 145 rfl) rfl
theorem q2483 : (Jvm.Cond.static ({ cls := "jdk/internal/util/ArraysSupport", name := "signedHashCode", desc := "(I[BII)I" } : Jvm.MethodName)) ∈ lw_all := lw_g (lw_at lw_m10 146 rfl) rfl
theorem q2484 : (Jvm.Cond.code ({ cls := "jdk/internal/util/ArraysSupport", name := "signedHashCode", desc := "(I[BII)I" } : Jvm.MethodName) prog_78_method_5_code (6 : Nat) (Option.some Jvm.ClassFile.FieldType.int)) ∈ lw_all := lw_g (lw_at lw_m10 147 rfl) rfl
theorem q2485 : (Jvm.Cond.methodLink "jdk/internal/util/ArraysSupport" (66 : Nat) ({ cls := "jdk/internal/util/ArraysSupport", name := "utf16hashCode", desc := "(I[BII)I" } : Jvm.MethodName)) ∈ lw_all := lw_g (lw_at lw_m10 148 rfl) rfl
theorem q2486 : (Jvm.Cond.static ({ cls := "jdk/internal/util/ArraysSupport", name := "utf16hashCode", desc := "(I[BII)I" } : Jvm.MethodName)) ∈ lw_all := lw_g (lw_at lw_m10 149 rfl) rfl
theorem q2487 : (Jvm.Cond.code ({ cls := "jdk/internal/util/ArraysSupport", name := "utf16hashCode", desc := "(I[BII)I" } : Jvm.MethodName) prog_78_method_10_code (6 : Nat) (Option.some Jvm.ClassFile.FieldType.int)) ∈ lw_all := lw_g (lw_at lw_m10 150 rfl) rfl
theorem q2488 : (Jvm.Cond.fieldLink "jdk/internal/util/ArraysSupport" (106 : Nat) "jdk/internal/util/ArraysSupport" "JLA" "Ljdk/internal/access/JavaLangAccess;") ∈ lw_all := lw_g (lw_at lw_m10 151 rfl) rfl
theorem q2489 : (Jvm.Cond.laysStatic "jdk/internal/util/ArraysSupport" "JLA" "Ljdk/internal/access/JavaLangAccess;") ∈ lw_tbl := lw_at lw_m10 152 rfl
theorem q2490 : (Jvm.Cond.interfaceEntry "jdk/internal/util/ArraysSupport" (110 : Nat)) ∈ lw_tbl := lw_at lw_m10 153 rfl
theorem q2491 : (Jvm.Cond.methodLink "jdk/internal/util/ArraysSupport" (110 : Nat) ({ cls := "jdk/internal/access/JavaLangAccess", name := "getUTF16Char", desc := "([BI)C" } : Jvm.MethodName)) ∈ lw_all := lw_g (lw_at lw_m10 154 rfl) rfl
theorem q2492 : (Jvm.Cond.interfaceMethod "jdk/internal/access/JavaLangAccess" "jdk/internal/access/JavaLangAccess" "getUTF16Char" "([BI)C") ∈ lw_tbl := lw_at lw_m10 155 rfl
theorem q2493 : (Jvm.Cond.declares ({ cls := "jdk/internal/access/JavaLangAccess", name := "getUTF16Char", desc := "([BI)C" } : Jvm.MethodName)) ∈ lw_tbl := lw_at lw_m10 156 rfl
theorem q2494 : (Jvm.Cond.castable "java/lang/System$2" "jdk/internal/access/JavaLangAccess") ∈ lw_tbl := lw_at lw_m10 157 rfl
theorem q2495 : (Jvm.Cond.selects "java/lang/System$2" ({ cls := "jdk/internal/access/JavaLangAccess", name := "getUTF16Char", desc := "([BI)C" } : Jvm.MethodName) ({ cls := "java/lang/System$2", name := "getUTF16Char", desc := "([BI)C" } : Jvm.MethodName)) ∈ lw_all := lw_g (lw_at lw_m10 158 rfl) rfl
theorem q2496 : (Jvm.Cond.unhidden "java/lang/System$2" "getUTF16Char" "([BI)C") ∈ lw_tbl := lw_at lw_m10 159 rfl
theorem q2497 : (Jvm.Cond.instanceMethod ({ cls := "java/lang/System$2", name := "getUTF16Char", desc := "([BI)C" } : Jvm.MethodName)) ∈ lw_all := lw_g (lw_at lw_m10 160 rfl) rfl
theorem q2498 : (Jvm.Cond.publicMethod ({ cls := "java/lang/System$2", name := "getUTF16Char", desc := "([BI)C" } : Jvm.MethodName)) ∈ lw_tbl := lw_at lw_m10 161 rfl
theorem q2499 : (Jvm.Cond.code ({ cls := "java/lang/System$2", name := "getUTF16Char", desc := "([BI)C" } : Jvm.MethodName) prog_64_method_45_code (3 : Nat) (Option.some Jvm.ClassFile.FieldType.char)) ∈ lw_all := lw_g (lw_at lw_m10 162 rfl) rfl
theorem q2500 : (Jvm.Cond.methodLink "java/lang/System$2" (185 : Nat) ({ cls := "java/lang/StringUTF16", name := "getChar", desc := "([BI)C" } : Jvm.MethodName)) ∈ lw_all := lw_g (lw_at lw_m10 163 rfl) rfl
theorem q2501 : (Jvm.Cond.classLink "jdk/internal/util/ArraysSupport" (69 : Nat) "[C") ∈ lw_all := lw_g (lw_at lw_m10 164 rfl) rfl
theorem q2502 : (Jvm.Cond.methodLink "jdk/internal/util/ArraysSupport" (71 : Nat) ({ cls := "jdk/internal/util/ArraysSupport", name := "hashCode", desc := "(I[CII)I" } : Jvm.MethodName)) ∈ lw_all := lw_g (lw_at lw_m10 165 rfl) rfl
theorem q2503 : (Jvm.Cond.static ({ cls := "jdk/internal/util/ArraysSupport", name := "hashCode", desc := "(I[CII)I" } : Jvm.MethodName)) ∈ lw_all := lw_g (lw_at lw_m10 166 rfl) rfl
theorem q2504 : (Jvm.Cond.code ({ cls := "jdk/internal/util/ArraysSupport", name := "hashCode", desc := "(I[CII)I" } : Jvm.MethodName) prog_78_method_7_code (6 : Nat) (Option.some Jvm.ClassFile.FieldType.int)) ∈ lw_all := lw_g (lw_at lw_m10 167 rfl) rfl
theorem q2505 : (Jvm.Cond.methodLink "jdk/internal/util/ArraysSupport" (75 : Nat) ({ cls := "jdk/internal/util/ArraysSupport", name := "hashCode", desc := "(I[BII)I" } : Jvm.MethodName)) ∈ lw_all := lw_g (lw_at lw_m10 168 rfl) rfl
theorem q2506 : (Jvm.Cond.static ({ cls := "jdk/internal/util/ArraysSupport", name := "hashCode", desc := "(I[BII)I" } : Jvm.MethodName)) ∈ lw_all := lw_g (lw_at lw_m10 169 rfl) rfl
theorem q2507 : (Jvm.Cond.code ({ cls := "jdk/internal/util/ArraysSupport", name := "hashCode", desc := "(I[BII)I" } : Jvm.MethodName) prog_78_method_6_code (6 : Nat) (Option.some Jvm.ClassFile.FieldType.int)) ∈ lw_all := lw_g (lw_at lw_m10 170 rfl) rfl
theorem q2508 : (Jvm.Cond.classLink "jdk/internal/util/ArraysSupport" (77 : Nat) "[S") ∈ lw_all := lw_g (lw_at lw_m10 171 rfl) rfl
theorem q2509 : (Jvm.Cond.methodLink "jdk/internal/util/ArraysSupport" (79 : Nat) ({ cls := "jdk/internal/util/ArraysSupport", name := "hashCode", desc := "(I[SII)I" } : Jvm.MethodName)) ∈ lw_all := lw_g (lw_at lw_m10 172 rfl) rfl
theorem q2510 : (Jvm.Cond.static ({ cls := "jdk/internal/util/ArraysSupport", name := "hashCode", desc := "(I[SII)I" } : Jvm.MethodName)) ∈ lw_all := lw_g (lw_at lw_m10 173 rfl) rfl
theorem q2511 : (Jvm.Cond.code ({ cls := "jdk/internal/util/ArraysSupport", name := "hashCode", desc := "(I[SII)I" } : Jvm.MethodName) prog_78_method_8_code (6 : Nat) (Option.some Jvm.ClassFile.FieldType.int)) ∈ lw_all := lw_g (lw_at lw_m10 174 rfl) rfl
theorem q2512 : (Jvm.Cond.classLink "jdk/internal/util/ArraysSupport" (82 : Nat) "[I") ∈ lw_all := lw_g (lw_at lw_m10 175 rfl) rfl
theorem q2513 : (Jvm.Cond.methodLink "jdk/internal/util/ArraysSupport" (84 : Nat) ({ cls := "jdk/internal/util/ArraysSupport", name := "hashCode", desc := "(I[III)I" } : Jvm.MethodName)) ∈ lw_all := lw_g (lw_at lw_m10 176 rfl) rfl
theorem q2514 : (Jvm.Cond.static ({ cls := "jdk/internal/util/ArraysSupport", name := "hashCode", desc := "(I[III)I" } : Jvm.MethodName)) ∈ lw_all := lw_g (lw_at lw_m10 177 rfl) rfl
theorem q2515 : (Jvm.Cond.code ({ cls := "jdk/internal/util/ArraysSupport", name := "hashCode", desc := "(I[III)I" } : Jvm.MethodName) prog_78_method_9_code (6 : Nat) (Option.some Jvm.ClassFile.FieldType.int)) ∈ lw_all := lw_g (lw_at lw_m10 178 rfl) rfl
theorem q2516 : (Jvm.Cond.methodLink "java/lang/String" (632 : Nat) ({ cls := "java/lang/StringUTF16", name := "hashCode", desc := "([B)I" } : Jvm.MethodName)) ∈ lw_all := lw_g (lw_at lw_m10 179 rfl) rfl
theorem q2517 : (Jvm.Cond.static ({ cls := "java/lang/StringUTF16", name := "hashCode", desc := "([B)I" } : Jvm.MethodName)) ∈ lw_all := lw_g (lw_at lw_m10 180 rfl) rfl
theorem q2518 : (Jvm.Cond.code ({ cls := "java/lang/StringUTF16", name := "hashCode", desc := "([B)I" } : Jvm.MethodName) prog_62_method_39_code (1 : Nat) (Option.some Jvm.ClassFile.FieldType.int)) ∈ lw_all := lw_g (lw_at lw_m10 181 rfl) rfl
theorem q2519 : (Jvm.Cond.methodLink "java/lang/StringUTF16" (220 : Nat) ({ cls := "jdk/internal/util/ArraysSupport", name := "vectorizedHashCode", desc := "(Ljava/lang/Object;IIII)I" } : Jvm.MethodName)) ∈ lw_all := lw_g (lw_at lw_m10 182 rfl) rfl
theorem q2520 : (Jvm.Cond.stringRef "LandMap$Algebra" (130 : Nat) "min") ∈ lw_tbl := lw_at lw_m10 183 rfl
theorem q2521 : (Jvm.Cond.methodLink "LandMap$Algebra" (132 : Nat) ({ cls := "java/lang/String", name := "equals", desc := "(Ljava/lang/Object;)Z" } : Jvm.MethodName)) ∈ lw_all := lw_g (lw_at lw_m10 184 rfl) rfl
theorem q2522 : (Jvm.Cond.instanceMethod ({ cls := "java/lang/String", name := "equals", desc := "(Ljava/lang/Object;)Z" } : Jvm.MethodName)) ∈ lw_all := lw_g (lw_at lw_m10 185 rfl) rfl
theorem q2523 : (Jvm.Cond.selects "java/lang/String" ({ cls := "java/lang/String", name := "equals", desc := "(Ljava/lang/Object;)Z" } : Jvm.MethodName) ({ cls := "java/lang/String", name := "equals", desc := "(Ljava/lang/Object;)Z" } : Jvm.MethodName)) ∈ lw_all := lw_g (lw_at lw_m10 186 rfl) rfl
theorem q2524 : (Jvm.Cond.code ({ cls := "java/lang/String", name := "equals", desc := "(Ljava/lang/Object;)Z" } : Jvm.MethodName) prog_59_method_66_code (3 : Nat) (Option.some Jvm.ClassFile.FieldType.boolean)) ∈ lw_all := lw_g (lw_at lw_m10 187 rfl) rfl
theorem q2525 : (Jvm.Cond.classLink "java/lang/String" (10 : Nat) "java/lang/String") ∈ lw_all := lw_g (lw_at lw_m10 188 rfl) rfl
theorem q2526 : (Jvm.Cond.methodLink "java/lang/String" (541 : Nat) ({ cls := "java/lang/StringLatin1", name := "equals", desc := "([B[B)Z" } : Jvm.MethodName)) ∈ lw_all := lw_g (lw_at lw_m10 189 rfl) rfl
theorem q2527 : (Jvm.Cond.static ({ cls := "java/lang/StringLatin1", name := "equals", desc := "([B[B)Z" } : Jvm.MethodName)) ∈ lw_all := lw_g (lw_at lw_m10 190 rfl) rfl
theorem q2528 : (Jvm.Cond.code ({ cls := "java/lang/StringLatin1", name := "equals", desc := "([B[B)Z" } : Jvm.MethodName) prog_61_method_13_code (3 : Nat) (Option.some Jvm.ClassFile.FieldType.boolean)) ∈ lw_all := lw_g (lw_at lw_m10 191 rfl) rfl
theorem q2529 : (Jvm.Cond.stringRef "LandMap$Algebra" (136 : Nat) "max") ∈ lw_tbl := lw_at lw_m10 192 rfl
theorem q2530 : (Jvm.Cond.stringRef "LandMap$Algebra" (138 : Nat) "or") ∈ lw_tbl := lw_at lw_m10 193 rfl
theorem q2531 : (Jvm.Cond.stringRef "LandMap$Algebra" (140 : Nat) "abs") ∈ lw_tbl := lw_at lw_m10 194 rfl
theorem q2532 : (Jvm.Cond.stringRef "LandMap$Algebra" (142 : Nat) "blank") ∈ lw_tbl := lw_at lw_m10 195 rfl
theorem q2533 : (Jvm.Cond.stringRef "LandMap$Algebra" (144 : Nat) "sum") ∈ lw_tbl := lw_at lw_m10 196 rfl
theorem q2534 : (Jvm.Cond.stringRef "LandMap$Algebra" (145 : Nat) "top") ∈ lw_tbl := lw_at lw_m10 197 rfl
theorem q2535 : (Jvm.Cond.stringRef "LandMap$Algebra" (147 : Nat) "low") ∈ lw_tbl := lw_at lw_m10 198 rfl
theorem q2536 : (Jvm.Cond.stringRef "LandMap$Algebra" (149 : Nat) "at") ∈ lw_tbl := lw_at lw_m10 199 rfl
theorem q2537 : (Jvm.Cond.methodLink "LandMap$Algebra" (71 : Nat) ({ cls := "LandMap$Scan", name := "accept", desc := "(C)Z" } : Jvm.MethodName)) ∈ lw_all := lw_g (lw_at lw_m10 200 rfl) rfl
theorem q2538 : (Jvm.Cond.methodLink "LandMap" (491 : Nat) ({ cls := "LandMap$Algebra", name := "work", desc := "()LLandMap$Raster;" } : Jvm.MethodName)) ∈ lw_all := lw_g (lw_at lw_m10 201 rfl) rfl
theorem q2539 : (Jvm.Cond.instanceMethod ({ cls := "LandMap$Algebra", name := "work", desc := "()LLandMap$Raster;" } : Jvm.MethodName)) ∈ lw_all := lw_g (lw_at lw_m10 202 rfl) rfl
theorem q2540 : (Jvm.Cond.selects "LandMap$Algebra" ({ cls := "LandMap$Algebra", name := "work", desc := "()LLandMap$Raster;" } : Jvm.MethodName) ({ cls := "LandMap$Algebra", name := "work", desc := "()LLandMap$Raster;" } : Jvm.MethodName)) ∈ lw_all := lw_g (lw_at lw_m10 203 rfl) rfl
theorem q2541 : (Jvm.Cond.code ({ cls := "LandMap$Algebra", name := "work", desc := "()LLandMap$Raster;" } : Jvm.MethodName) prog_2_method_15_code (3 : Nat) (Option.some (Jvm.ClassFile.FieldType.object "LandMap$Raster"))) ∈ lw_all := lw_g (lw_at lw_m10 204 rfl) rfl
theorem q2542 : (Jvm.Cond.methodLink "LandMap$Algebra" (172 : Nat) ({ cls := "LandMap$Algebra", name := "step", desc := "(III)V" } : Jvm.MethodName)) ∈ lw_all := lw_g (lw_at lw_m10 205 rfl) rfl
theorem q2543 : (Jvm.Cond.privateMethod ({ cls := "LandMap$Algebra", name := "step", desc := "(III)V" } : Jvm.MethodName)) ∈ lw_tbl := lw_at lw_m10 206 rfl
theorem q2544 : (Jvm.Cond.instanceMethod ({ cls := "LandMap$Algebra", name := "step", desc := "(III)V" } : Jvm.MethodName)) ∈ lw_all := lw_g (lw_at lw_m10 207 rfl) rfl
theorem q2545 : (Jvm.Cond.code ({ cls := "LandMap$Algebra", name := "step", desc := "(III)V" } : Jvm.MethodName) prog_2_method_16_code (7 : Nat) (Option.none : Option Jvm.ClassFile.FieldType)) ∈ lw_all := lw_g (lw_at lw_m10 208 rfl) rfl
theorem q2546 : (Jvm.Cond.methodLink "LandMap$Algebra" (180 : Nat) ({ cls := "LandMap$Algebra", name := "push", desc := "()[J" } : Jvm.MethodName)) ∈ lw_all := lw_g (lw_at lw_m10 209 rfl) rfl
theorem q2547 : (Jvm.Cond.privateMethod ({ cls := "LandMap$Algebra", name := "push", desc := "()[J" } : Jvm.MethodName)) ∈ lw_tbl := lw_at lw_m10 210 rfl
theorem q2548 : (Jvm.Cond.instanceMethod ({ cls := "LandMap$Algebra", name := "push", desc := "()[J" } : Jvm.MethodName)) ∈ lw_all := lw_g (lw_at lw_m10 211 rfl) rfl
theorem q2549 : (Jvm.Cond.code ({ cls := "LandMap$Algebra", name := "push", desc := "()[J" } : Jvm.MethodName) prog_2_method_14_code (1 : Nat) (Option.some (Jvm.ClassFile.FieldType.array Jvm.ClassFile.FieldType.long))) ∈ lw_all := lw_g (lw_at lw_m10 212 rfl) rfl
theorem q2550 : (Jvm.Cond.methodLink "LandMap$Algebra" (159 : Nat) ({ cls := "java/util/ArrayList", name := "add", desc := "(Ljava/lang/Object;)Z" } : Jvm.MethodName)) ∈ lw_all := lw_g (lw_at lw_m10 213 rfl) rfl
theorem q2551 : (Jvm.Cond.methodLink "LandMap$Algebra" (161 : Nat) ({ cls := "LandMap$Algebra", name := "top", desc := "()[J" } : Jvm.MethodName)) ∈ lw_all := lw_g (lw_at lw_m10 214 rfl) rfl
theorem q2552 : (Jvm.Cond.privateMethod ({ cls := "LandMap$Algebra", name := "top", desc := "()[J" } : Jvm.MethodName)) ∈ lw_tbl := lw_at lw_m10 215 rfl
theorem q2553 : (Jvm.Cond.instanceMethod ({ cls := "LandMap$Algebra", name := "top", desc := "()[J" } : Jvm.MethodName)) ∈ lw_all := lw_g (lw_at lw_m10 216 rfl) rfl
theorem q2554 : (Jvm.Cond.code ({ cls := "LandMap$Algebra", name := "top", desc := "()[J" } : Jvm.MethodName) prog_2_method_13_code (1 : Nat) (Option.some (Jvm.ClassFile.FieldType.array Jvm.ClassFile.FieldType.long))) ∈ lw_all := lw_g (lw_at lw_m10 217 rfl) rfl
theorem q2555 : (Jvm.Cond.classLink "LandMap$Algebra" (157 : Nat) "[J") ∈ lw_all := lw_g (lw_at lw_m10 218 rfl) rfl
theorem q2556 : (Jvm.Cond.methodLink "LandMap$Algebra" (183 : Nat) ({ cls := "LandMap$Algebra", name := "ofOne", desc := "(IJ)J" } : Jvm.MethodName)) ∈ lw_all := lw_g (lw_at lw_m10 219 rfl) rfl
theorem q2557 : (Jvm.Cond.static ({ cls := "LandMap$Algebra", name := "ofOne", desc := "(IJ)J" } : Jvm.MethodName)) ∈ lw_all := lw_g (lw_at lw_m10 220 rfl) rfl
theorem q2558 : (Jvm.Cond.code ({ cls := "LandMap$Algebra", name := "ofOne", desc := "(IJ)J" } : Jvm.MethodName) prog_2_method_17_code (3 : Nat) (Option.some Jvm.ClassFile.FieldType.long)) ∈ lw_all := lw_g (lw_at lw_m10 221 rfl) rfl
theorem q2559 : (Jvm.Cond.constantLong "LandMap$Algebra" (187 : Nat) (3000000000 : Int64)) ∈ lw_all := lw_g (lw_at lw_m10 222 rfl) rfl
theorem q2560 : (Jvm.Cond.methodLink "LandMap$Algebra" (189 : Nat) ({ cls := "LandMap$Algebra", name := "around", desc := "(III)V" } : Jvm.MethodName)) ∈ lw_all := lw_g (lw_at lw_m10 223 rfl) rfl
theorem q2561 : (Jvm.Cond.privateMethod ({ cls := "LandMap$Algebra", name := "around", desc := "(III)V" } : Jvm.MethodName)) ∈ lw_tbl := lw_at lw_m10 224 rfl
theorem q2562 : (Jvm.Cond.instanceMethod ({ cls := "LandMap$Algebra", name := "around", desc := "(III)V" } : Jvm.MethodName)) ∈ lw_all := lw_g (lw_at lw_m10 225 rfl) rfl
theorem q2563 : (Jvm.Cond.code ({ cls := "LandMap$Algebra", name := "around", desc := "(III)V" } : Jvm.MethodName) prog_2_method_19_code (8 : Nat) (Option.none : Option Jvm.ClassFile.FieldType)) ∈ lw_all := lw_g (lw_at lw_m10 226 rfl) rfl
theorem q2564 : (Jvm.Cond.methodLink "LandMap$Algebra" (203 : Nat) ({ cls := "LandMap$Algebra", name := "seen", desc := "([JII)J" } : Jvm.MethodName)) ∈ lw_all := lw_g (lw_at lw_m10 227 rfl) rfl
theorem q2565 : (Jvm.Cond.privateMethod ({ cls := "LandMap$Algebra", name := "seen", desc := "([JII)J" } : Jvm.MethodName)) ∈ lw_tbl := lw_at lw_m10 228 rfl
theorem q2566 : (Jvm.Cond.instanceMethod ({ cls := "LandMap$Algebra", name := "seen", desc := "([JII)J" } : Jvm.MethodName)) ∈ lw_all := lw_g (lw_at lw_m10 229 rfl) rfl
theorem q2567 : (Jvm.Cond.code ({ cls := "LandMap$Algebra", name := "seen", desc := "([JII)J" } : Jvm.MethodName) prog_2_method_20_code (4 : Nat) (Option.some Jvm.ClassFile.FieldType.long)) ∈ lw_all := lw_g (lw_at lw_m10 230 rfl) rfl
theorem q2568 : (Jvm.Cond.methodLink "LandMap$Algebra" (207 : Nat) ({ cls := "LandMap$Algebra", name := "gathered", desc := "(I[JIII)J" } : Jvm.MethodName)) ∈ lw_all := lw_g (lw_at lw_m10 231 rfl) rfl
theorem q2569 : (Jvm.Cond.privateMethod ({ cls := "LandMap$Algebra", name := "gathered", desc := "(I[JIII)J" } : Jvm.MethodName)) ∈ lw_tbl := lw_at lw_m10 232 rfl
theorem q2570 : (Jvm.Cond.instanceMethod ({ cls := "LandMap$Algebra", name := "gathered", desc := "(I[JIII)J" } : Jvm.MethodName)) ∈ lw_all := lw_g (lw_at lw_m10 233 rfl) rfl
theorem q2571 : (Jvm.Cond.code ({ cls := "LandMap$Algebra", name := "gathered", desc := "(I[JIII)J" } : Jvm.MethodName) prog_2_method_21_code (12 : Nat) (Option.some Jvm.ClassFile.FieldType.long)) ∈ lw_all := lw_g (lw_at lw_m10 234 rfl) rfl
theorem q2572 : (Jvm.Cond.methodLink "LandMap$Algebra" (201 : Nat) ({ cls := "java/lang/Math", name := "max", desc := "(JJ)J" } : Jvm.MethodName)) ∈ lw_all := lw_g (lw_at lw_m10 235 rfl) rfl
theorem q2573 : (Jvm.Cond.methodLink "LandMap$Algebra" (196 : Nat) ({ cls := "java/lang/Math", name := "min", desc := "(JJ)J" } : Jvm.MethodName)) ∈ lw_all := lw_g (lw_at lw_m10 236 rfl) rfl
theorem q2574 : (Jvm.Cond.methodLink "LandMap$Algebra" (192 : Nat) ({ cls := "LandMap$Algebra", name := "ofTwo", desc := "(IJJ)J" } : Jvm.MethodName)) ∈ lw_all := lw_g (lw_at lw_m10 237 rfl) rfl
theorem q2575 : (Jvm.Cond.static ({ cls := "LandMap$Algebra", name := "ofTwo", desc := "(IJJ)J" } : Jvm.MethodName)) ∈ lw_all := lw_g (lw_at lw_m10 238 rfl) rfl
theorem q2576 : (Jvm.Cond.code ({ cls := "LandMap$Algebra", name := "ofTwo", desc := "(IJJ)J" } : Jvm.MethodName) prog_2_method_18_code (5 : Nat) (Option.some Jvm.ClassFile.FieldType.long)) ∈ lw_all := lw_g (lw_at lw_m10 239 rfl) rfl
theorem q2577 : (Jvm.Cond.methodLink "LandMap$Algebra" (175 : Nat) ({ cls := "LandMap$Raster", name := "<init>", desc := "(II)V" } : Jvm.MethodName)) ∈ lw_all := lw_g (lw_at lw_m11 0 rfl) rfl
theorem q2578 : (Jvm.Cond.methodLink "LandMapLaw" (166 : Nat) ({ cls := "LandMap", name := "spread", desc := "(II)I" } : Jvm.MethodName)) ∈ lw_all := lw_g (lw_at lw_m11 1 rfl) rfl
theorem q2579 : (Jvm.Cond.instanceMethod ({ cls := "LandMap", name := "spread", desc := "(II)I" } : Jvm.MethodName)) ∈ lw_all := lw_g (lw_at lw_m11 2 rfl) rfl
theorem q2580 : (Jvm.Cond.selects "LandMap" ({ cls := "LandMap", name := "spread", desc := "(II)I" } : Jvm.MethodName) ({ cls := "LandMap", name := "spread", desc := "(II)I" } : Jvm.MethodName)) ∈ lw_all := lw_g (lw_at lw_m11 3 rfl) rfl
theorem q2581 : (Jvm.Cond.code ({ cls := "LandMap", name := "spread", desc := "(II)I" } : Jvm.MethodName) prog_1_method_50_code (5 : Nat) (Option.some Jvm.ClassFile.FieldType.int)) ∈ lw_all := lw_g (lw_at lw_m11 4 rfl) rfl
theorem q2582 : (Jvm.Cond.methodLink "LandMap" (494 : Nat) ({ cls := "LandMap$Raster", name := "isLike", desc := "(LLandMap$Raster;)Z" } : Jvm.MethodName)) ∈ lw_all := lw_g (lw_at lw_m11 5 rfl) rfl
theorem q2583 : (Jvm.Cond.methodLink "LandMap" (498 : Nat) ({ cls := "LandMap$Spread", name := "work", desc := "(LLandMap$Raster;LLandMap$Raster;)LLandMap$Raster;" } : Jvm.MethodName)) ∈ lw_all := lw_g (lw_at lw_m11 6 rfl) rfl
theorem q2584 : (Jvm.Cond.instanceMethod ({ cls := "LandMap$Spread", name := "work", desc := "(LLandMap$Raster;LLandMap$Raster;)LLandMap$Raster;" } : Jvm.MethodName)) ∈ lw_all := lw_g (lw_at lw_m11 7 rfl) rfl
theorem q2585 : (Jvm.Cond.selects "LandMap$Spread" ({ cls := "LandMap$Spread", name := "work", desc := "(LLandMap$Raster;LLandMap$Raster;)LLandMap$Raster;" } : Jvm.MethodName) ({ cls := "LandMap$Spread", name := "work", desc := "(LLandMap$Raster;LLandMap$Raster;)LLandMap$Raster;" } : Jvm.MethodName)) ∈ lw_all := lw_g (lw_at lw_m11 8 rfl) rfl
theorem q2586 : (Jvm.Cond.code ({ cls := "LandMap$Spread", name := "work", desc := "(LLandMap$Raster;LLandMap$Raster;)LLandMap$Raster;" } : Jvm.MethodName) prog_22_method_3_code (6 : Nat) (Option.some (Jvm.ClassFile.FieldType.object "LandMap$Raster"))) ∈ lw_all := lw_g (lw_at lw_m11 9 rfl) rfl
theorem q2587 : (Jvm.Cond.methodLink "LandMap$Spread" (32 : Nat) ({ cls := "LandMap$Heap", name := "clear", desc := "(I)V" } : Jvm.MethodName)) ∈ lw_all := lw_g (lw_at lw_m11 10 rfl) rfl
theorem q2588 : (Jvm.Cond.constantLong "LandMap$Spread" (28 : Nat) (3000000000 : Int64)) ∈ lw_all := lw_g (lw_at lw_m11 11 rfl) rfl
theorem q2589 : (Jvm.Cond.methodLink "LandMap$Spread" (35 : Nat) ({ cls := "LandMap$Spread", name := "isBarred", desc := "(I)Z" } : Jvm.MethodName)) ∈ lw_all := lw_g (lw_at lw_m11 12 rfl) rfl
theorem q2590 : (Jvm.Cond.privateMethod ({ cls := "LandMap$Spread", name := "isBarred", desc := "(I)Z" } : Jvm.MethodName)) ∈ lw_tbl := lw_at lw_m11 13 rfl
theorem q2591 : (Jvm.Cond.instanceMethod ({ cls := "LandMap$Spread", name := "isBarred", desc := "(I)Z" } : Jvm.MethodName)) ∈ lw_all := lw_g (lw_at lw_m11 14 rfl) rfl
theorem q2592 : (Jvm.Cond.code ({ cls := "LandMap$Spread", name := "isBarred", desc := "(I)Z" } : Jvm.MethodName) prog_22_method_2_code (2 : Nat) (Option.some Jvm.ClassFile.FieldType.boolean)) ∈ lw_all := lw_g (lw_at lw_m11 15 rfl) rfl
theorem q2593 : (Jvm.Cond.constantLong "LandMap$Spread" (30 : Nat) (1000 : Int64)) ∈ lw_all := lw_g (lw_at lw_m11 16 rfl) rfl
theorem q2594 : (Jvm.Cond.methodLink "LandMap$Spread" (39 : Nat) ({ cls := "LandMap$Heap", name := "offer", desc := "(IJI)V" } : Jvm.MethodName)) ∈ lw_all := lw_g (lw_at lw_m11 17 rfl) rfl
theorem q2595 : (Jvm.Cond.methodLink "LandMap$Spread" (43 : Nat) ({ cls := "LandMap$Heap", name := "isEmpty", desc := "()Z" } : Jvm.MethodName)) ∈ lw_all := lw_g (lw_at lw_m11 18 rfl) rfl
theorem q2596 : (Jvm.Cond.methodLink "LandMap$Spread" (47 : Nat) ({ cls := "LandMap$Heap", name := "take", desc := "()I" } : Jvm.MethodName)) ∈ lw_all := lw_g (lw_at lw_m11 19 rfl) rfl
theorem q2597 : (Jvm.Cond.methodLink "LandMap$Spread" (51 : Nat) ({ cls := "LandMap$Spread", name := "step", desc := "(I)V" } : Jvm.MethodName)) ∈ lw_all := lw_g (lw_at lw_m11 20 rfl) rfl
theorem q2598 : (Jvm.Cond.privateMethod ({ cls := "LandMap$Spread", name := "step", desc := "(I)V" } : Jvm.MethodName)) ∈ lw_tbl := lw_at lw_m11 21 rfl
theorem q2599 : (Jvm.Cond.instanceMethod ({ cls := "LandMap$Spread", name := "step", desc := "(I)V" } : Jvm.MethodName)) ∈ lw_all := lw_g (lw_at lw_m11 22 rfl) rfl
theorem q2600 : (Jvm.Cond.code ({ cls := "LandMap$Spread", name := "step", desc := "(I)V" } : Jvm.MethodName) prog_22_method_4_code (7 : Nat) (Option.none : Option Jvm.ClassFile.FieldType)) ∈ lw_all := lw_g (lw_at lw_m11 23 rfl) rfl
theorem q2601 : (Jvm.Cond.methodLink "LandMap$Spread" (70 : Nat) ({ cls := "java/lang/Math", name := "max", desc := "(II)I" } : Jvm.MethodName)) ∈ lw_all := lw_g (lw_at lw_m11 24 rfl) rfl
theorem q2602 : (Jvm.Cond.methodLink "LandMap$Spread" (76 : Nat) ({ cls := "java/lang/Math", name := "min", desc := "(II)I" } : Jvm.MethodName)) ∈ lw_all := lw_g (lw_at lw_m11 25 rfl) rfl
theorem q2603 : (Jvm.Cond.classLink "LandMap$Spread" (23 : Nat) "LandMap$Raster") ∈ lw_all := lw_g (lw_at lw_m11 26 rfl) rfl
theorem q2604 : (Jvm.Cond.methodLink "LandMap$Spread" (61 : Nat) ({ cls := "LandMap$Raster", name := "<init>", desc := "(II)V" } : Jvm.MethodName)) ∈ lw_all := lw_g (lw_at lw_m11 27 rfl) rfl
theorem q2605 : (Jvm.Cond.methodLink "LandMap$Spread" (64 : Nat) ({ cls := "LandMap$Heap", name := "isReached", desc := "(I)Z" } : Jvm.MethodName)) ∈ lw_all := lw_g (lw_at lw_m11 28 rfl) rfl
theorem q2606 : (Jvm.Cond.methodLink "LandMapLaw" (170 : Nat) ({ cls := "LandMap", name := "strays", desc := "()I" } : Jvm.MethodName)) ∈ lw_all := lw_g (lw_at lw_m11 29 rfl) rfl
theorem q2607 : (Jvm.Cond.instanceMethod ({ cls := "LandMap", name := "strays", desc := "()I" } : Jvm.MethodName)) ∈ lw_all := lw_g (lw_at lw_m11 30 rfl) rfl
theorem q2608 : (Jvm.Cond.selects "LandMap" ({ cls := "LandMap", name := "strays", desc := "()I" } : Jvm.MethodName) ({ cls := "LandMap", name := "strays", desc := "()I" } : Jvm.MethodName)) ∈ lw_all := lw_g (lw_at lw_m11 31 rfl) rfl
theorem q2609 : (Jvm.Cond.code ({ cls := "LandMap", name := "strays", desc := "()I" } : Jvm.MethodName) prog_1_method_51_code (1 : Nat) (Option.some Jvm.ClassFile.FieldType.int)) ∈ lw_all := lw_g (lw_at lw_m11 32 rfl) rfl
theorem q2610 : (Jvm.Cond.classLink "LandMapLaw" (10 : Nat) "LandMapModel") ∈ lw_all := lw_g (lw_at lw_m11 33 rfl) rfl
theorem q2611 : (Jvm.Cond.instantiable "LandMapModel" (31 : Nat)) ∈ lw_all := lw_g (lw_at lw_m11 34 rfl) rfl
theorem q2612 : (Jvm.Cond.methodLink "LandMapLaw" (12 : Nat) ({ cls := "LandMapModel", name := "<init>", desc := "()V" } : Jvm.MethodName)) ∈ lw_all := lw_g (lw_at lw_m11 35 rfl) rfl
theorem q2613 : (Jvm.Cond.instanceMethod ({ cls := "LandMapModel", name := "<init>", desc := "()V" } : Jvm.MethodName)) ∈ lw_all := lw_g (lw_at lw_m11 36 rfl) rfl
theorem q2614 : (Jvm.Cond.code ({ cls := "LandMapModel", name := "<init>", desc := "()V" } : Jvm.MethodName) prog_26_method_11_code (1 : Nat) (Option.none : Option Jvm.ClassFile.FieldType)) ∈ lw_all := lw_g (lw_at lw_m11 37 rfl) rfl
theorem q2615 : (Jvm.Cond.methodLink "LandMapModel" (37 : Nat) ({ cls := "java/lang/Object", name := "<init>", desc := "()V" } : Jvm.MethodName)) ∈ lw_all := lw_g (lw_at lw_m11 38 rfl) rfl
theorem q2616 : (Jvm.Cond.classLink "LandMapModel" (47 : Nat) "LandMapModel$Trouble") ∈ lw_all := lw_g (lw_at lw_m11 39 rfl) rfl
theorem q2617 : (Jvm.Cond.instantiable "LandMapModel$Trouble" (1 : Nat)) ∈ lw_all := lw_g (lw_at lw_m11 40 rfl) rfl
theorem q2618 : (Jvm.Cond.methodLinkNest "LandMapModel" (49 : Nat) ({ cls := "LandMapModel$Trouble", name := "<init>", desc := "()V" } : Jvm.MethodName) "LandMapModel") ∈ lw_tbl := lw_at lw_m11 41 rfl
theorem q2619 : (Jvm.Cond.instanceMethod ({ cls := "LandMapModel$Trouble", name := "<init>", desc := "()V" } : Jvm.MethodName)) ∈ lw_all := lw_g (lw_at lw_m11 42 rfl) rfl
theorem q2620 : (Jvm.Cond.code ({ cls := "LandMapModel$Trouble", name := "<init>", desc := "()V" } : Jvm.MethodName) prog_43_method_1_code (1 : Nat) (Option.none : Option Jvm.ClassFile.FieldType)) ∈ lw_all := lw_g (lw_at lw_m11 43 rfl) rfl
theorem q2621 : (Jvm.Cond.methodLink "LandMapModel$Trouble" (1 : Nat) ({ cls := "java/lang/Object", name := "<init>", desc := "()V" } : Jvm.MethodName)) ∈ lw_all := lw_g (lw_at lw_m11 44 rfl) rfl
theorem q2622 : (Jvm.Cond.fieldLink "LandMapModel$Trouble" (7 : Nat) "LandMapModel$Trouble" "place" "I") ∈ lw_all := lw_g (lw_at lw_m11 45 rfl) rfl
theorem q2623 : (Jvm.Cond.fieldLink "LandMapModel" (212 : Nat) "LandMapModel$Trouble" "place" "I") ∈ lw_all := lw_g (lw_at lw_m11 46 rfl) rfl
theorem q2624 : (Jvm.Cond.lays "LandMapModel$Trouble" "LandMapModel$Trouble" "place" "I") ∈ lw_all := lw_g (lw_at lw_m11 47 rfl) rfl
theorem q2625 : (Jvm.Cond.soleField "LandMapModel$Trouble" "place") ∈ lw_all := lw_g (lw_at lw_m11 48 rfl) rfl
theorem q2626 : (Jvm.Cond.superclass "LandMapModel$Trouble" "java/lang/Object") ∈ lw_all := lw_g (lw_at lw_m11 49 rfl) rfl
theorem q2627 : (Jvm.Cond.classLink "LandMapModel" (58 : Nat) "LandMapModel$Rules") ∈ lw_all := lw_g (lw_at lw_m11 50 rfl) rfl
theorem q2628 : (Jvm.Cond.instantiable "LandMapModel$Rules" (8 : Nat)) ∈ lw_all := lw_g (lw_at lw_m11 51 rfl) rfl
theorem q2629 : (Jvm.Cond.methodLinkNest "LandMapModel" (60 : Nat) ({ cls := "LandMapModel$Rules", name := "<init>", desc := "()V" } : Jvm.MethodName) "LandMapModel") ∈ lw_tbl := lw_at lw_m11 52 rfl
theorem q2630 : (Jvm.Cond.instanceMethod ({ cls := "LandMapModel$Rules", name := "<init>", desc := "()V" } : Jvm.MethodName)) ∈ lw_all := lw_g (lw_at lw_m11 53 rfl) rfl
theorem q2631 : (Jvm.Cond.code ({ cls := "LandMapModel$Rules", name := "<init>", desc := "()V" } : Jvm.MethodName) prog_38_method_1_code (1 : Nat) (Option.none : Option Jvm.ClassFile.FieldType)) ∈ lw_all := lw_g (lw_at lw_m11 54 rfl) rfl
theorem q2632 : (Jvm.Cond.methodLink "LandMapModel$Rules" (3 : Nat) ({ cls := "java/lang/Object", name := "<init>", desc := "()V" } : Jvm.MethodName)) ∈ lw_all := lw_g (lw_at lw_m11 55 rfl) rfl
theorem q2633 : (Jvm.Cond.classLink "LandMapModel$Rules" (9 : Nat) "LandMapModel$Net") ∈ lw_all := lw_g (lw_at lw_m11 56 rfl) rfl
theorem q2634 : (Jvm.Cond.instantiable "LandMapModel$Net" (22 : Nat)) ∈ lw_all := lw_g (lw_at lw_m11 57 rfl) rfl
theorem q2635 : (Jvm.Cond.methodLinkNest "LandMapModel$Rules" (11 : Nat) ({ cls := "LandMapModel$Net", name := "<init>", desc := "()V" } : Jvm.MethodName) "LandMapModel") ∈ lw_tbl := lw_at lw_m11 58 rfl
theorem q2636 : (Jvm.Cond.instanceMethod ({ cls := "LandMapModel$Net", name := "<init>", desc := "()V" } : Jvm.MethodName)) ∈ lw_all := lw_g (lw_at lw_m11 59 rfl) rfl
theorem q2637 : (Jvm.Cond.code ({ cls := "LandMapModel$Net", name := "<init>", desc := "()V" } : Jvm.MethodName) prog_32_method_1_code (1 : Nat) (Option.none : Option Jvm.ClassFile.FieldType)) ∈ lw_all := lw_g (lw_at lw_m11 60 rfl) rfl
theorem q2638 : (Jvm.Cond.methodLink "LandMapModel$Net" (1 : Nat) ({ cls := "java/lang/Object", name := "<init>", desc := "()V" } : Jvm.MethodName)) ∈ lw_all := lw_g (lw_at lw_m11 61 rfl) rfl
theorem q2639 : (Jvm.Cond.fieldLink "LandMapModel$Net" (7 : Nat) "LandMapModel$Net" "x" "[I") ∈ lw_all := lw_g (lw_at lw_m11 62 rfl) rfl
theorem q2640 : (Jvm.Cond.fieldLink "LandMapModel$Roads" (106 : Nat) "LandMapModel$Net" "x" "[I") ∈ lw_all := lw_g (lw_at lw_m11 63 rfl) rfl
theorem q2641 : (Jvm.Cond.fieldLink "LandMapModel$Steps" (83 : Nat) "LandMapModel$Net" "x" "[I") ∈ lw_all := lw_g (lw_at lw_m11 64 rfl) rfl
theorem q2642 : (Jvm.Cond.fieldLink "LandMapModel$Overlay" (187 : Nat) "LandMapModel$Net" "x" "[I") ∈ lw_all := lw_g (lw_at lw_m11 65 rfl) rfl
theorem q2643 : (Jvm.Cond.fieldLink "LandMapModel$Laid" (251 : Nat) "LandMapModel$Net" "x" "[I") ∈ lw_all := lw_g (lw_at lw_m11 66 rfl) rfl
theorem q2644 : (Jvm.Cond.fieldLink "LandMapModel" (333 : Nat) "LandMapModel$Net" "x" "[I") ∈ lw_all := lw_g (lw_at lw_m11 67 rfl) rfl
theorem q2645 : (Jvm.Cond.fieldLink "LandMapModel$Net" (13 : Nat) "LandMapModel$Net" "y" "[I") ∈ lw_all := lw_g (lw_at lw_m11 68 rfl) rfl
theorem q2646 : (Jvm.Cond.fieldLink "LandMapModel$Roads" (115 : Nat) "LandMapModel$Net" "y" "[I") ∈ lw_all := lw_g (lw_at lw_m11 69 rfl) rfl
theorem q2647 : (Jvm.Cond.fieldLink "LandMapModel$Steps" (89 : Nat) "LandMapModel$Net" "y" "[I") ∈ lw_all := lw_g (lw_at lw_m11 70 rfl) rfl
theorem q2648 : (Jvm.Cond.fieldLink "LandMapModel$Overlay" (190 : Nat) "LandMapModel$Net" "y" "[I") ∈ lw_all := lw_g (lw_at lw_m11 71 rfl) rfl
theorem q2649 : (Jvm.Cond.fieldLink "LandMapModel$Laid" (256 : Nat) "LandMapModel$Net" "y" "[I") ∈ lw_all := lw_g (lw_at lw_m11 72 rfl) rfl
theorem q2650 : (Jvm.Cond.fieldLink "LandMapModel" (335 : Nat) "LandMapModel$Net" "y" "[I") ∈ lw_all := lw_g (lw_at lw_m11 73 rfl) rfl
theorem q2651 : (Jvm.Cond.fieldLink "LandMapModel$Relation" (64 : Nat) "LandMapModel$Net" "nodes" "I") ∈ lw_all := lw_g (lw_at lw_m11 74 rfl) rfl
theorem q2652 : (Jvm.Cond.fieldLink "LandMapModel$Overlay" (75 : Nat) "LandMapModel$Net" "nodes" "I") ∈ lw_all := lw_g (lw_at lw_m11 75 rfl) rfl
theorem q2653 : (Jvm.Cond.fieldLink "LandMapModel$Steps" (77 : Nat) "LandMapModel$Net" "nodes" "I") ∈ lw_all := lw_g (lw_at lw_m11 76 rfl) rfl
theorem q2654 : (Jvm.Cond.fieldLink "LandMapModel$Net" (85 : Nat) "LandMapModel$Net" "nodes" "I") ∈ lw_all := lw_g (lw_at lw_m11 77 rfl) rfl
theorem q2655 : (Jvm.Cond.fieldLink "LandMapModel" (316 : Nat) "LandMapModel$Net" "nodes" "I") ∈ lw_all := lw_g (lw_at lw_m11 78 rfl) rfl
theorem q2656 : (Jvm.Cond.fieldLink "LandMapModel$Net" (16 : Nat) "LandMapModel$Net" "low" "[I") ∈ lw_all := lw_g (lw_at lw_m11 79 rfl) rfl
theorem q2657 : (Jvm.Cond.fieldLink "LandMapModel$Roads" (109 : Nat) "LandMapModel$Net" "low" "[I") ∈ lw_all := lw_g (lw_at lw_m11 80 rfl) rfl
theorem q2658 : (Jvm.Cond.fieldLink "LandMapModel$Relation" (145 : Nat) "LandMapModel$Net" "low" "[I") ∈ lw_all := lw_g (lw_at lw_m11 81 rfl) rfl
theorem q2659 : (Jvm.Cond.fieldLink "LandMapModel$Steps" (94 : Nat) "LandMapModel$Net" "low" "[I") ∈ lw_all := lw_g (lw_at lw_m11 82 rfl) rfl
theorem q2660 : (Jvm.Cond.fieldLink "LandMapModel$Laid" (253 : Nat) "LandMapModel$Net" "low" "[I") ∈ lw_all := lw_g (lw_at lw_m11 83 rfl) rfl
theorem q2661 : (Jvm.Cond.fieldLink "LandMapModel" (340 : Nat) "LandMapModel$Net" "low" "[I") ∈ lw_all := lw_g (lw_at lw_m11 84 rfl) rfl
theorem q2662 : (Jvm.Cond.fieldLink "LandMapModel$Net" (19 : Nat) "LandMapModel$Net" "high" "[I") ∈ lw_all := lw_g (lw_at lw_m11 85 rfl) rfl
theorem q2663 : (Jvm.Cond.fieldLink "LandMapModel$Roads" (112 : Nat) "LandMapModel$Net" "high" "[I") ∈ lw_all := lw_g (lw_at lw_m11 86 rfl) rfl
theorem q2664 : (Jvm.Cond.fieldLink "LandMapModel$Relation" (148 : Nat) "LandMapModel$Net" "high" "[I") ∈ lw_all := lw_g (lw_at lw_m11 87 rfl) rfl
theorem q2665 : (Jvm.Cond.fieldLink "LandMapModel$Steps" (97 : Nat) "LandMapModel$Net" "high" "[I") ∈ lw_all := lw_g (lw_at lw_m11 88 rfl) rfl
theorem q2666 : (Jvm.Cond.fieldLink "LandMapModel$Laid" (258 : Nat) "LandMapModel$Net" "high" "[I") ∈ lw_all := lw_g (lw_at lw_m11 89 rfl) rfl
theorem q2667 : (Jvm.Cond.fieldLink "LandMapModel" (343 : Nat) "LandMapModel$Net" "high" "[I") ∈ lw_all := lw_g (lw_at lw_m11 90 rfl) rfl
theorem q2668 : (Jvm.Cond.fieldLink "LandMapModel$Roads" (46 : Nat) "LandMapModel$Net" "pieces" "I") ∈ lw_all := lw_g (lw_at lw_m11 91 rfl) rfl
theorem q2669 : (Jvm.Cond.fieldLink "LandMapModel$Relation" (76 : Nat) "LandMapModel$Net" "pieces" "I") ∈ lw_all := lw_g (lw_at lw_m11 92 rfl) rfl
theorem q2670 : (Jvm.Cond.fieldLink "LandMapModel$Overlay" (68 : Nat) "LandMapModel$Net" "pieces" "I") ∈ lw_all := lw_g (lw_at lw_m11 93 rfl) rfl
theorem q2671 : (Jvm.Cond.fieldLink "LandMapModel$Steps" (80 : Nat) "LandMapModel$Net" "pieces" "I") ∈ lw_all := lw_g (lw_at lw_m11 94 rfl) rfl
theorem q2672 : (Jvm.Cond.fieldLink "LandMapModel$Net" (89 : Nat) "LandMapModel$Net" "pieces" "I") ∈ lw_all := lw_g (lw_at lw_m11 95 rfl) rfl
theorem q2673 : (Jvm.Cond.fieldLink "LandMapModel$Rules" (150 : Nat) "LandMapModel$Net" "pieces" "I") ∈ lw_all := lw_g (lw_at lw_m11 96 rfl) rfl
theorem q2674 : (Jvm.Cond.fieldLink "LandMapModel$Laid" (222 : Nat) "LandMapModel$Net" "pieces" "I") ∈ lw_all := lw_g (lw_at lw_m11 97 rfl) rfl
theorem q2675 : (Jvm.Cond.fieldLink "LandMapModel" (311 : Nat) "LandMapModel$Net" "pieces" "I") ∈ lw_all := lw_g (lw_at lw_m11 98 rfl) rfl
theorem q2676 : (Jvm.Cond.fieldLink "LandMapModel$Net" (22 : Nat) "LandMapModel$Net" "begins" "[I") ∈ lw_all := lw_g (lw_at lw_m11 99 rfl) rfl
theorem q2677 : (Jvm.Cond.fieldLink "LandMapModel$Net" (25 : Nat) "LandMapModel$Net" "out" "[I") ∈ lw_all := lw_g (lw_at lw_m11 100 rfl) rfl
theorem q2678 : (Jvm.Cond.fieldLink "LandMapModel$Net" (28 : Nat) "LandMapModel$Net" "rank" "[I") ∈ lw_all := lw_g (lw_at lw_m11 101 rfl) rfl
theorem q2679 : (Jvm.Cond.fieldLink "LandMapModel$Net" (31 : Nat) "LandMapModel$Net" "round" "[I") ∈ lw_all := lw_g (lw_at lw_m11 102 rfl) rfl
theorem q2680 : (Jvm.Cond.fieldLink "LandMapModel$Net" (34 : Nat) "LandMapModel$Net" "area" "[J") ∈ lw_all := lw_g (lw_at lw_m11 103 rfl) rfl
theorem q2681 : (Jvm.Cond.fieldLink "LandMapModel$Net" (38 : Nat) "LandMapModel$Net" "least" "[I") ∈ lw_all := lw_g (lw_at lw_m11 104 rfl) rfl
theorem q2682 : (Jvm.Cond.fieldLink "LandMapModel$Net" (41 : Nat) "LandMapModel$Net" "faceOf" "[I") ∈ lw_all := lw_g (lw_at lw_m11 105 rfl) rfl
theorem q2683 : (Jvm.Cond.fieldLink "LandMapModel$Net" (105 : Nat) "LandMapModel$Net" "rounds" "I") ∈ lw_all := lw_g (lw_at lw_m11 106 rfl) rfl
theorem q2684 : (Jvm.Cond.fieldLink "LandMapModel$Net" (44 : Nat) "LandMapModel$Net" "part" "[I") ∈ lw_all := lw_g (lw_at lw_m11 107 rfl) rfl
theorem q2685 : (Jvm.Cond.fieldLink "LandMapModel$Relation" (55 : Nat) "LandMapModel$Net" "faces" "I") ∈ lw_all := lw_g (lw_at lw_m11 108 rfl) rfl
theorem q2686 : (Jvm.Cond.fieldLink "LandMapModel$Overlay" (59 : Nat) "LandMapModel$Net" "faces" "I") ∈ lw_all := lw_g (lw_at lw_m11 109 rfl) rfl
theorem q2687 : (Jvm.Cond.fieldLink "LandMapModel$Rules" (144 : Nat) "LandMapModel$Net" "faces" "I") ∈ lw_all := lw_g (lw_at lw_m11 110 rfl) rfl
theorem q2688 : (Jvm.Cond.fieldLink "LandMapModel$Net" (128 : Nat) "LandMapModel$Net" "faces" "I") ∈ lw_all := lw_g (lw_at lw_m11 111 rfl) rfl
theorem q2689 : (Jvm.Cond.fieldLink "LandMapModel$Laid" (229 : Nat) "LandMapModel$Net" "faces" "I") ∈ lw_all := lw_g (lw_at lw_m11 112 rfl) rfl
theorem q2690 : (Jvm.Cond.fieldLink "LandMapModel" (319 : Nat) "LandMapModel$Net" "faces" "I") ∈ lw_all := lw_g (lw_at lw_m11 113 rfl) rfl
theorem q2691 : (Jvm.Cond.fieldLink "LandMapModel$Net" (47 : Nat) "LandMapModel$Net" "order" "[I") ∈ lw_all := lw_g (lw_at lw_m11 114 rfl) rfl
theorem q2692 : (Jvm.Cond.fieldLink "LandMapModel$Net" (50 : Nat) "LandMapModel$Net" "over" "[I") ∈ lw_all := lw_g (lw_at lw_m11 115 rfl) rfl
theorem q2693 : (Jvm.Cond.fieldLink "LandMapModel$Net" (53 : Nat) "LandMapModel$Net" "from" "[I") ∈ lw_all := lw_g (lw_at lw_m11 116 rfl) rfl
theorem q2694 : (Jvm.Cond.fieldLink "LandMapModel$Net" (56 : Nat) "LandMapModel$Net" "odd" "[Z") ∈ lw_all := lw_g (lw_at lw_m11 117 rfl) rfl
theorem q2695 : (Jvm.Cond.fieldLink "LandMapModel$Net" (60 : Nat) "LandMapModel$Net" "firstOf" "[I") ∈ lw_all := lw_g (lw_at lw_m11 118 rfl) rfl
theorem q2696 : (Jvm.Cond.fieldLink "LandMapModel$Net" (63 : Nat) "LandMapModel$Net" "nextOf" "[I") ∈ lw_all := lw_g (lw_at lw_m11 119 rfl) rfl
theorem q2697 : (Jvm.Cond.lays "LandMapModel$Net" "LandMapModel$Net" "x" "[I") ∈ lw_all := lw_g (lw_at lw_m11 120 rfl) rfl
theorem q2698 : (Jvm.Cond.soleField "LandMapModel$Net" "x") ∈ lw_all := lw_g (lw_at lw_m11 121 rfl) rfl
theorem q2699 : (Jvm.Cond.lays "LandMapModel$Net" "LandMapModel$Net" "y" "[I") ∈ lw_all := lw_g (lw_at lw_m11 122 rfl) rfl
theorem q2700 : (Jvm.Cond.soleField "LandMapModel$Net" "y") ∈ lw_all := lw_g (lw_at lw_m11 123 rfl) rfl
theorem q2701 : (Jvm.Cond.lays "LandMapModel$Net" "LandMapModel$Net" "nodes" "I") ∈ lw_all := lw_g (lw_at lw_m11 124 rfl) rfl
theorem q2702 : (Jvm.Cond.soleField "LandMapModel$Net" "nodes") ∈ lw_all := lw_g (lw_at lw_m11 125 rfl) rfl
theorem q2703 : (Jvm.Cond.lays "LandMapModel$Net" "LandMapModel$Net" "low" "[I") ∈ lw_all := lw_g (lw_at lw_m11 126 rfl) rfl
theorem q2704 : (Jvm.Cond.soleField "LandMapModel$Net" "low") ∈ lw_all := lw_g (lw_at lw_m11 127 rfl) rfl
theorem q2705 : (Jvm.Cond.lays "LandMapModel$Net" "LandMapModel$Net" "high" "[I") ∈ lw_all := lw_g (lw_at lw_m11 128 rfl) rfl
theorem q2706 : (Jvm.Cond.soleField "LandMapModel$Net" "high") ∈ lw_all := lw_g (lw_at lw_m11 129 rfl) rfl
theorem q2707 : (Jvm.Cond.lays "LandMapModel$Net" "LandMapModel$Net" "pieces" "I") ∈ lw_all := lw_g (lw_at lw_m11 130 rfl) rfl
theorem q2708 : (Jvm.Cond.soleField "LandMapModel$Net" "pieces") ∈ lw_all := lw_g (lw_at lw_m11 131 rfl) rfl
theorem q2709 : (Jvm.Cond.lays "LandMapModel$Net" "LandMapModel$Net" "begins" "[I") ∈ lw_all := lw_g (lw_at lw_m11 132 rfl) rfl
theorem q2710 : (Jvm.Cond.soleField "LandMapModel$Net" "begins") ∈ lw_all := lw_g (lw_at lw_m11 133 rfl) rfl
theorem q2711 : (Jvm.Cond.lays "LandMapModel$Net" "LandMapModel$Net" "out" "[I") ∈ lw_all := lw_g (lw_at lw_m11 134 rfl) rfl
theorem q2712 : (Jvm.Cond.soleField "LandMapModel$Net" "out") ∈ lw_all := lw_g (lw_at lw_m11 135 rfl) rfl
theorem q2713 : (Jvm.Cond.lays "LandMapModel$Net" "LandMapModel$Net" "rank" "[I") ∈ lw_all := lw_g (lw_at lw_m11 136 rfl) rfl
theorem q2714 : (Jvm.Cond.soleField "LandMapModel$Net" "rank") ∈ lw_all := lw_g (lw_at lw_m11 137 rfl) rfl
theorem q2715 : (Jvm.Cond.lays "LandMapModel$Net" "LandMapModel$Net" "round" "[I") ∈ lw_all := lw_g (lw_at lw_m11 138 rfl) rfl
theorem q2716 : (Jvm.Cond.soleField "LandMapModel$Net" "round") ∈ lw_all := lw_g (lw_at lw_m11 139 rfl) rfl
theorem q2717 : (Jvm.Cond.lays "LandMapModel$Net" "LandMapModel$Net" "area" "[J") ∈ lw_all := lw_g (lw_at lw_m11 140 rfl) rfl
theorem q2718 : (Jvm.Cond.soleField "LandMapModel$Net" "area") ∈ lw_all := lw_g (lw_at lw_m11 141 rfl) rfl
theorem q2719 : (Jvm.Cond.lays "LandMapModel$Net" "LandMapModel$Net" "least" "[I") ∈ lw_all := lw_g (lw_at lw_m11 142 rfl) rfl
theorem q2720 : (Jvm.Cond.soleField "LandMapModel$Net" "least") ∈ lw_all := lw_g (lw_at lw_m11 143 rfl) rfl
theorem q2721 : (Jvm.Cond.lays "LandMapModel$Net" "LandMapModel$Net" "faceOf" "[I") ∈ lw_all := lw_g (lw_at lw_m11 144 rfl) rfl
theorem q2722 : (Jvm.Cond.soleField "LandMapModel$Net" "faceOf") ∈ lw_all := lw_g (lw_at lw_m11 145 rfl) rfl
theorem q2723 : (Jvm.Cond.lays "LandMapModel$Net" "LandMapModel$Net" "rounds" "I") ∈ lw_all := lw_g (lw_at lw_m11 146 rfl) rfl
theorem q2724 : (Jvm.Cond.soleField "LandMapModel$Net" "rounds") ∈ lw_all := lw_g (lw_at lw_m11 147 rfl) rfl
theorem q2725 : (Jvm.Cond.lays "LandMapModel$Net" "LandMapModel$Net" "part" "[I") ∈ lw_all := lw_g (lw_at lw_m11 148 rfl) rfl
theorem q2726 : (Jvm.Cond.soleField "LandMapModel$Net" "part") ∈ lw_all := lw_g (lw_at lw_m11 149 rfl) rfl
theorem q2727 : (Jvm.Cond.lays "LandMapModel$Net" "LandMapModel$Net" "faces" "I") ∈ lw_all := lw_g (lw_at lw_m11 150 rfl) rfl
theorem q2728 : (Jvm.Cond.soleField "LandMapModel$Net" "faces") ∈ lw_all := lw_g (lw_at lw_m11 151 rfl) rfl
theorem q2729 : (Jvm.Cond.lays "LandMapModel$Net" "LandMapModel$Net" "order" "[I") ∈ lw_all := lw_g (lw_at lw_m11 152 rfl) rfl
theorem q2730 : (Jvm.Cond.soleField "LandMapModel$Net" "order") ∈ lw_all := lw_g (lw_at lw_m11 153 rfl) rfl
theorem q2731 : (Jvm.Cond.lays "LandMapModel$Net" "LandMapModel$Net" "over" "[I") ∈ lw_all := lw_g (lw_at lw_m11 154 rfl) rfl
theorem q2732 : (Jvm.Cond.soleField "LandMapModel$Net" "over") ∈ lw_all := lw_g (lw_at lw_m11 155 rfl) rfl
theorem q2733 : (Jvm.Cond.lays "LandMapModel$Net" "LandMapModel$Net" "from" "[I") ∈ lw_all := lw_g (lw_at lw_m11 156 rfl) rfl
theorem q2734 : (Jvm.Cond.soleField "LandMapModel$Net" "from") ∈ lw_all := lw_g (lw_at lw_m11 157 rfl) rfl
theorem q2735 : (Jvm.Cond.lays "LandMapModel$Net" "LandMapModel$Net" "odd" "[Z") ∈ lw_all := lw_g (lw_at lw_m11 158 rfl) rfl
theorem q2736 : (Jvm.Cond.soleField "LandMapModel$Net" "odd") ∈ lw_all := lw_g (lw_at lw_m11 159 rfl) rfl
theorem q2737 : (Jvm.Cond.lays "LandMapModel$Net" "LandMapModel$Net" "firstOf" "[I") ∈ lw_all := lw_g (lw_at lw_m11 160 rfl) rfl
theorem q2738 : (Jvm.Cond.soleField "LandMapModel$Net" "firstOf") ∈ lw_all := lw_g (lw_at lw_m11 161 rfl) rfl
theorem q2739 : (Jvm.Cond.lays "LandMapModel$Net" "LandMapModel$Net" "nextOf" "[I") ∈ lw_all := lw_g (lw_at lw_m11 162 rfl) rfl
theorem q2740 : (Jvm.Cond.soleField "LandMapModel$Net" "nextOf") ∈ lw_all := lw_g (lw_at lw_m11 163 rfl) rfl
theorem q2741 : (Jvm.Cond.superclass "LandMapModel$Net" "java/lang/Object") ∈ lw_all := lw_g (lw_at lw_m11 164 rfl) rfl
theorem q2742 : (Jvm.Cond.classLink "LandMapModel$Rules" (18 : Nat) "LandMapModel$Places") ∈ lw_all := lw_g (lw_at lw_m11 165 rfl) rfl
theorem q2743 : (Jvm.Cond.instantiable "LandMapModel$Places" (2 : Nat)) ∈ lw_all := lw_g (lw_at lw_m11 166 rfl) rfl
theorem q2744 : (Jvm.Cond.methodLinkNest "LandMapModel$Rules" (20 : Nat) ({ cls := "LandMapModel$Places", name := "<init>", desc := "()V" } : Jvm.MethodName) "LandMapModel") ∈ lw_tbl := lw_at lw_m11 167 rfl
theorem q2745 : (Jvm.Cond.instanceMethod ({ cls := "LandMapModel$Places", name := "<init>", desc := "()V" } : Jvm.MethodName)) ∈ lw_all := lw_g (lw_at lw_m11 168 rfl) rfl
theorem q2746 : (Jvm.Cond.code ({ cls := "LandMapModel$Places", name := "<init>", desc := "()V" } : Jvm.MethodName) prog_34_method_1_code (1 : Nat) (Option.none : Option Jvm.ClassFile.FieldType)) ∈ lw_all := lw_g (lw_at lw_m11 169 rfl) rfl
theorem q2747 : (Jvm.Cond.methodLink "LandMapModel$Places" (1 : Nat) ({ cls := "java/lang/Object", name := "<init>", desc := "()V" } : Jvm.MethodName)) ∈ lw_all := lw_g (lw_at lw_m11 170 rfl) rfl
theorem q2748 : (Jvm.Cond.fieldLink "LandMapModel$Places" (7 : Nat) "LandMapModel$Places" "row" "[J") ∈ lw_all := lw_g (lw_at lw_m11 171 rfl) rfl
theorem q2749 : (Jvm.Cond.fieldLink "LandMapModel$Places" (13 : Nat) "LandMapModel$Places" "size" "I") ∈ lw_all := lw_g (lw_at lw_m11 172 rfl) rfl
theorem q2750 : (Jvm.Cond.fieldLink "LandMapModel$Steps" (71 : Nat) "LandMapModel$Places" "size" "I") ∈ lw_all := lw_g (lw_at lw_m11 173 rfl) rfl
theorem q2751 : (Jvm.Cond.fieldLink "LandMapModel$Rules" (110 : Nat) "LandMapModel$Places" "size" "I") ∈ lw_all := lw_g (lw_at lw_m11 174 rfl) rfl
theorem q2752 : (Jvm.Cond.fieldLink "LandMapModel$Laid" (153 : Nat) "LandMapModel$Places" "size" "I") ∈ lw_all := lw_g (lw_at lw_m11 175 rfl) rfl
theorem q2753 : (Jvm.Cond.fieldLink "LandMapModel" (326 : Nat) "LandMapModel$Places" "size" "I") ∈ lw_all := lw_g (lw_at lw_m11 176 rfl) rfl
theorem q2754 : (Jvm.Cond.lays "LandMapModel$Places" "LandMapModel$Places" "row" "[J") ∈ lw_all := lw_g (lw_at lw_m11 177 rfl) rfl
theorem q2755 : (Jvm.Cond.soleField "LandMapModel$Places" "row") ∈ lw_all := lw_g (lw_at lw_m11 178 rfl) rfl
theorem q2756 : (Jvm.Cond.lays "LandMapModel$Places" "LandMapModel$Places" "size" "I") ∈ lw_all := lw_g (lw_at lw_m11 179 rfl) rfl
theorem q2757 : (Jvm.Cond.soleField "LandMapModel$Places" "size") ∈ lw_all := lw_g (lw_at lw_m11 180 rfl) rfl
theorem q2758 : (Jvm.Cond.superclass "LandMapModel$Places" "java/lang/Object") ∈ lw_all := lw_g (lw_at lw_m11 181 rfl) rfl
theorem q2759 : (Jvm.Cond.classLink "LandMapModel$Rules" (25 : Nat) "LandMapModel$Steps") ∈ lw_all := lw_g (lw_at lw_m11 182 rfl) rfl
theorem q2760 : (Jvm.Cond.instantiable "LandMapModel$Steps" (5 : Nat)) ∈ lw_all := lw_g (lw_at lw_m11 183 rfl) rfl
theorem q2761 : (Jvm.Cond.methodLinkNest "LandMapModel$Rules" (27 : Nat) ({ cls := "LandMapModel$Steps", name := "<init>", desc := "()V" } : Jvm.MethodName) "LandMapModel") ∈ lw_tbl := lw_at lw_m11 184 rfl
theorem q2762 : (Jvm.Cond.instanceMethod ({ cls := "LandMapModel$Steps", name := "<init>", desc := "()V" } : Jvm.MethodName)) ∈ lw_all := lw_g (lw_at lw_m11 185 rfl) rfl
theorem q2763 : (Jvm.Cond.code ({ cls := "LandMapModel$Steps", name := "<init>", desc := "()V" } : Jvm.MethodName) prog_41_method_1_code (1 : Nat) (Option.none : Option Jvm.ClassFile.FieldType)) ∈ lw_all := lw_g (lw_at lw_m11 186 rfl) rfl
theorem q2764 : (Jvm.Cond.methodLink "LandMapModel$Steps" (3 : Nat) ({ cls := "java/lang/Object", name := "<init>", desc := "()V" } : Jvm.MethodName)) ∈ lw_all := lw_g (lw_at lw_m11 187 rfl) rfl
theorem q2765 : (Jvm.Cond.classLink "LandMapModel$Steps" (9 : Nat) "LandMapModel$Ints") ∈ lw_all := lw_g (lw_at lw_m11 188 rfl) rfl
theorem q2766 : (Jvm.Cond.instantiable "LandMapModel$Ints" (2 : Nat)) ∈ lw_all := lw_g (lw_at lw_m11 189 rfl) rfl
theorem q2767 : (Jvm.Cond.methodLinkNest "LandMapModel$Steps" (11 : Nat) ({ cls := "LandMapModel$Ints", name := "<init>", desc := "()V" } : Jvm.MethodName) "LandMapModel") ∈ lw_tbl := lw_at lw_m11 190 rfl
theorem q2768 : (Jvm.Cond.instanceMethod ({ cls := "LandMapModel$Ints", name := "<init>", desc := "()V" } : Jvm.MethodName)) ∈ lw_all := lw_g (lw_at lw_m11 191 rfl) rfl
theorem q2769 : (Jvm.Cond.code ({ cls := "LandMapModel$Ints", name := "<init>", desc := "()V" } : Jvm.MethodName) prog_30_method_1_code (1 : Nat) (Option.none : Option Jvm.ClassFile.FieldType)) ∈ lw_all := lw_g (lw_at lw_m11 192 rfl) rfl
theorem q2770 : (Jvm.Cond.methodLink "LandMapModel$Ints" (1 : Nat) ({ cls := "java/lang/Object", name := "<init>", desc := "()V" } : Jvm.MethodName)) ∈ lw_all := lw_g (lw_at lw_m11 193 rfl) rfl
theorem q2771 : (Jvm.Cond.fieldLink "LandMapModel$Ints" (7 : Nat) "LandMapModel$Ints" "row" "[I") ∈ lw_all := lw_g (lw_at lw_m11 194 rfl) rfl
theorem q2772 : (Jvm.Cond.fieldLink "LandMapModel$Roads" (75 : Nat) "LandMapModel$Ints" "row" "[I") ∈ lw_all := lw_g (lw_at lw_m11 195 rfl) rfl
theorem q2773 : (Jvm.Cond.fieldLink "LandMapModel$Worker" (55 : Nat) "LandMapModel$Ints" "row" "[I") ∈ lw_all := lw_g (lw_at lw_m11 196 rfl) rfl
theorem q2774 : (Jvm.Cond.fieldLink "LandMapModel$Steps" (50 : Nat) "LandMapModel$Ints" "row" "[I") ∈ lw_all := lw_g (lw_at lw_m11 197 rfl) rfl
theorem q2775 : (Jvm.Cond.fieldLink "LandMapModel$Relation" (137 : Nat) "LandMapModel$Ints" "row" "[I") ∈ lw_all := lw_g (lw_at lw_m11 198 rfl) rfl
theorem q2776 : (Jvm.Cond.fieldLink "LandMapModel$Laid" (133 : Nat) "LandMapModel$Ints" "row" "[I") ∈ lw_all := lw_g (lw_at lw_m11 199 rfl) rfl
theorem q2777 : (Jvm.Cond.fieldLink "LandMapModel$Rules" (125 : Nat) "LandMapModel$Ints" "row" "[I") ∈ lw_all := lw_g (lw_at lw_m11 200 rfl) rfl
theorem q2778 : (Jvm.Cond.fieldLink "LandMapModel$Overlay" (147 : Nat) "LandMapModel$Ints" "row" "[I") ∈ lw_all := lw_g (lw_at lw_m11 201 rfl) rfl
theorem q2779 : (Jvm.Cond.fieldLink "LandMapModel" (408 : Nat) "LandMapModel$Ints" "row" "[I") ∈ lw_all := lw_g (lw_at lw_m11 202 rfl) rfl
theorem q2780 : (Jvm.Cond.fieldLink "LandMapModel$Ints" (13 : Nat) "LandMapModel$Ints" "size" "I") ∈ lw_all := lw_g (lw_at lw_m11 203 rfl) rfl
theorem q2781 : (Jvm.Cond.fieldLink "LandMapModel$Worker" (51 : Nat) "LandMapModel$Ints" "size" "I") ∈ lw_all := lw_g (lw_at lw_m11 204 rfl) rfl
theorem q2782 : (Jvm.Cond.fieldLink "LandMapModel$Steps" (42 : Nat) "LandMapModel$Ints" "size" "I") ∈ lw_all := lw_g (lw_at lw_m11 205 rfl) rfl
theorem q2783 : (Jvm.Cond.fieldLink "LandMapModel$Roads" (128 : Nat) "LandMapModel$Ints" "size" "I") ∈ lw_all := lw_g (lw_at lw_m11 206 rfl) rfl
theorem q2784 : (Jvm.Cond.fieldLink "LandMapModel$Overlay" (99 : Nat) "LandMapModel$Ints" "size" "I") ∈ lw_all := lw_g (lw_at lw_m11 207 rfl) rfl
theorem q2785 : (Jvm.Cond.fieldLink "LandMapModel$Laid" (131 : Nat) "LandMapModel$Ints" "size" "I") ∈ lw_all := lw_g (lw_at lw_m11 208 rfl) rfl
theorem q2786 : (Jvm.Cond.fieldLink "LandMapModel$Rules" (124 : Nat) "LandMapModel$Ints" "size" "I") ∈ lw_all := lw_g (lw_at lw_m11 209 rfl) rfl
theorem q2787 : (Jvm.Cond.fieldLink "LandMapModel" (407 : Nat) "LandMapModel$Ints" "size" "I") ∈ lw_all := lw_g (lw_at lw_m11 210 rfl) rfl
theorem q2788 : (Jvm.Cond.lays "LandMapModel$Ints" "LandMapModel$Ints" "row" "[I") ∈ lw_all := lw_g (lw_at lw_m11 211 rfl) rfl
theorem q2789 : (Jvm.Cond.soleField "LandMapModel$Ints" "row") ∈ lw_all := lw_g (lw_at lw_m11 212 rfl) rfl
theorem q2790 : (Jvm.Cond.lays "LandMapModel$Ints" "LandMapModel$Ints" "size" "I") ∈ lw_all := lw_g (lw_at lw_m11 213 rfl) rfl
theorem q2791 : (Jvm.Cond.soleField "LandMapModel$Ints" "size") ∈ lw_all := lw_g (lw_at lw_m11 214 rfl) rfl
theorem q2792 : (Jvm.Cond.superclass "LandMapModel$Ints" "java/lang/Object") ∈ lw_all := lw_g (lw_at lw_m11 215 rfl) rfl
theorem q2793 : (Jvm.Cond.classLink "LandMapModel$Steps" (28 : Nat) "LandMapModel$Places") ∈ lw_all := lw_g (lw_at lw_m11 216 rfl) rfl
theorem q2794 : (Jvm.Cond.methodLinkNest "LandMapModel$Steps" (30 : Nat) ({ cls := "LandMapModel$Places", name := "<init>", desc := "()V" } : Jvm.MethodName) "LandMapModel") ∈ lw_tbl := lw_at lw_m11 217 rfl
theorem q2795 : (Jvm.Cond.fieldLink "LandMapModel$Steps" (12 : Nat) "LandMapModel$Steps" "who" "LLandMapModel$Ints;") ∈ lw_all := lw_g (lw_at lw_m11 218 rfl) rfl
theorem q2796 : (Jvm.Cond.fieldLink "LandMapModel$Roads" (72 : Nat) "LandMapModel$Steps" "who" "LLandMapModel$Ints;") ∈ lw_all := lw_g (lw_at lw_m11 219 rfl) rfl
theorem q2797 : (Jvm.Cond.fieldLink "LandMapModel$Relation" (133 : Nat) "LandMapModel$Steps" "who" "LLandMapModel$Ints;") ∈ lw_all := lw_g (lw_at lw_m11 220 rfl) rfl
theorem q2798 : (Jvm.Cond.fieldLink "LandMapModel$Laid" (232 : Nat) "LandMapModel$Steps" "who" "LLandMapModel$Ints;") ∈ lw_all := lw_g (lw_at lw_m11 221 rfl) rfl
theorem q2799 : (Jvm.Cond.fieldLink "LandMapModel$Steps" (18 : Nat) "LandMapModel$Steps" "one" "LLandMapModel$Ints;") ∈ lw_all := lw_g (lw_at lw_m11 222 rfl) rfl
theorem q2800 : (Jvm.Cond.fieldLink "LandMapModel$Steps" (21 : Nat) "LandMapModel$Steps" "two" "LLandMapModel$Ints;") ∈ lw_all := lw_g (lw_at lw_m11 223 rfl) rfl
theorem q2801 : (Jvm.Cond.fieldLink "LandMapModel$Steps" (24 : Nat) "LandMapModel$Steps" "piece" "[I") ∈ lw_all := lw_g (lw_at lw_m11 224 rfl) rfl
theorem q2802 : (Jvm.Cond.fieldLink "LandMapModel$Roads" (89 : Nat) "LandMapModel$Steps" "piece" "[I") ∈ lw_all := lw_g (lw_at lw_m11 225 rfl) rfl
theorem q2803 : (Jvm.Cond.fieldLink "LandMapModel$Relation" (142 : Nat) "LandMapModel$Steps" "piece" "[I") ∈ lw_all := lw_g (lw_at lw_m11 226 rfl) rfl
theorem q2804 : (Jvm.Cond.fieldLink "LandMapModel$Laid" (235 : Nat) "LandMapModel$Steps" "piece" "[I") ∈ lw_all := lw_g (lw_at lw_m11 227 rfl) rfl
theorem q2805 : (Jvm.Cond.fieldLink "LandMapModel$Steps" (31 : Nat) "LandMapModel$Steps" "pairs" "LLandMapModel$Places;") ∈ lw_all := lw_g (lw_at lw_m11 228 rfl) rfl
theorem q2806 : (Jvm.Cond.laysFinal "LandMapModel$Steps" "LandMapModel$Steps" "who" "LLandMapModel$Ints;") ∈ lw_all := lw_g (lw_at lw_m11 229 rfl) rfl
theorem q2807 : (Jvm.Cond.soleField "LandMapModel$Steps" "who") ∈ lw_all := lw_g (lw_at lw_m11 230 rfl) rfl
theorem q2808 : (Jvm.Cond.laysFinal "LandMapModel$Steps" "LandMapModel$Steps" "one" "LLandMapModel$Ints;") ∈ lw_all := lw_g (lw_at lw_m11 231 rfl) rfl
theorem q2809 : (Jvm.Cond.soleField "LandMapModel$Steps" "one") ∈ lw_all := lw_g (lw_at lw_m11 232 rfl) rfl
theorem q2810 : (Jvm.Cond.laysFinal "LandMapModel$Steps" "LandMapModel$Steps" "two" "LLandMapModel$Ints;") ∈ lw_all := lw_g (lw_at lw_m11 233 rfl) rfl
theorem q2811 : (Jvm.Cond.soleField "LandMapModel$Steps" "two") ∈ lw_all := lw_g (lw_at lw_m11 234 rfl) rfl
theorem q2812 : (Jvm.Cond.lays "LandMapModel$Steps" "LandMapModel$Steps" "piece" "[I") ∈ lw_all := lw_g (lw_at lw_m11 235 rfl) rfl
theorem q2813 : (Jvm.Cond.soleField "LandMapModel$Steps" "piece") ∈ lw_all := lw_g (lw_at lw_m11 236 rfl) rfl
theorem q2814 : (Jvm.Cond.laysFinal "LandMapModel$Steps" "LandMapModel$Steps" "pairs" "LLandMapModel$Places;") ∈ lw_all := lw_g (lw_at lw_m11 237 rfl) rfl
theorem q2815 : (Jvm.Cond.soleField "LandMapModel$Steps" "pairs") ∈ lw_all := lw_g (lw_at lw_m11 238 rfl) rfl
theorem q2816 : (Jvm.Cond.superclass "LandMapModel$Steps" "java/lang/Object") ∈ lw_all := lw_g (lw_at lw_m11 239 rfl) rfl
theorem q2817 : (Jvm.Cond.classLink "LandMapModel$Rules" (46 : Nat) "LandMapModel$Ints") ∈ lw_all := lw_g (lw_at lw_m12 0 rfl) rfl
theorem q2818 : (Jvm.Cond.methodLinkNest "LandMapModel$Rules" (48 : Nat) ({ cls := "LandMapModel$Ints", name := "<init>", desc := "()V" } : Jvm.MethodName) "LandMapModel") ∈ lw_tbl := lw_at lw_m12 1 rfl
theorem q2819 : (Jvm.Cond.fieldLink "LandMapModel$Rules" (12 : Nat) "LandMapModel$Rules" "net" "LLandMapModel$Net;") ∈ lw_all := lw_g (lw_at lw_m12 2 rfl) rfl
theorem q2820 : (Jvm.Cond.fieldLink "LandMapModel$Rules" (21 : Nat) "LandMapModel$Rules" "nodes" "LLandMapModel$Places;") ∈ lw_all := lw_g (lw_at lw_m12 3 rfl) rfl
theorem q2821 : (Jvm.Cond.fieldLink "LandMapModel$Rules" (28 : Nat) "LandMapModel$Rules" "steps" "LLandMapModel$Steps;") ∈ lw_all := lw_g (lw_at lw_m12 4 rfl) rfl
theorem q2822 : (Jvm.Cond.fieldLink "LandMapModel$Rules" (32 : Nat) "LandMapModel$Rules" "times" "[I") ∈ lw_all := lw_g (lw_at lw_m12 5 rfl) rfl
theorem q2823 : (Jvm.Cond.fieldLink "LandMapModel$Rules" (36 : Nat) "LandMapModel$Rules" "covered" "[Z") ∈ lw_all := lw_g (lw_at lw_m12 6 rfl) rfl
theorem q2824 : (Jvm.Cond.fieldLink "LandMapModel$Rules" (40 : Nat) "LandMapModel$Rules" "first" "[Z") ∈ lw_all := lw_g (lw_at lw_m12 7 rfl) rfl
theorem q2825 : (Jvm.Cond.fieldLink "LandMapModel$Rules" (43 : Nat) "LandMapModel$Rules" "holes" "[I") ∈ lw_all := lw_g (lw_at lw_m12 8 rfl) rfl
theorem q2826 : (Jvm.Cond.fieldLink "LandMapModel$Rules" (49 : Nat) "LandMapModel$Rules" "on" "LLandMapModel$Ints;") ∈ lw_all := lw_g (lw_at lw_m12 9 rfl) rfl
theorem q2827 : (Jvm.Cond.laysFinal "LandMapModel$Rules" "LandMapModel$Rules" "net" "LLandMapModel$Net;") ∈ lw_all := lw_g (lw_at lw_m12 10 rfl) rfl
theorem q2828 : (Jvm.Cond.soleField "LandMapModel$Rules" "net") ∈ lw_all := lw_g (lw_at lw_m12 11 rfl) rfl
theorem q2829 : (Jvm.Cond.laysFinal "LandMapModel$Rules" "LandMapModel$Rules" "nodes" "LLandMapModel$Places;") ∈ lw_all := lw_g (lw_at lw_m12 12 rfl) rfl
theorem q2830 : (Jvm.Cond.soleField "LandMapModel$Rules" "nodes") ∈ lw_all := lw_g (lw_at lw_m12 13 rfl) rfl
theorem q2831 : (Jvm.Cond.laysFinal "LandMapModel$Rules" "LandMapModel$Rules" "steps" "LLandMapModel$Steps;") ∈ lw_all := lw_g (lw_at lw_m12 14 rfl) rfl
theorem q2832 : (Jvm.Cond.soleField "LandMapModel$Rules" "steps") ∈ lw_all := lw_g (lw_at lw_m12 15 rfl) rfl
theorem q2833 : (Jvm.Cond.lays "LandMapModel$Rules" "LandMapModel$Rules" "times" "[I") ∈ lw_all := lw_g (lw_at lw_m12 16 rfl) rfl
theorem q2834 : (Jvm.Cond.soleField "LandMapModel$Rules" "times") ∈ lw_all := lw_g (lw_at lw_m12 17 rfl) rfl
theorem q2835 : (Jvm.Cond.lays "LandMapModel$Rules" "LandMapModel$Rules" "covered" "[Z") ∈ lw_all := lw_g (lw_at lw_m12 18 rfl) rfl
theorem q2836 : (Jvm.Cond.soleField "LandMapModel$Rules" "covered") ∈ lw_all := lw_g (lw_at lw_m12 19 rfl) rfl
theorem q2837 : (Jvm.Cond.lays "LandMapModel$Rules" "LandMapModel$Rules" "first" "[Z") ∈ lw_all := lw_g (lw_at lw_m12 20 rfl) rfl
theorem q2838 : (Jvm.Cond.soleField "LandMapModel$Rules" "first") ∈ lw_all := lw_g (lw_at lw_m12 21 rfl) rfl
theorem q2839 : (Jvm.Cond.lays "LandMapModel$Rules" "LandMapModel$Rules" "holes" "[I") ∈ lw_all := lw_g (lw_at lw_m12 22 rfl) rfl
theorem q2840 : (Jvm.Cond.soleField "LandMapModel$Rules" "holes") ∈ lw_all := lw_g (lw_at lw_m12 23 rfl) rfl
theorem q2841 : (Jvm.Cond.laysFinal "LandMapModel$Rules" "LandMapModel$Rules" "on" "LLandMapModel$Ints;") ∈ lw_all := lw_g (lw_at lw_m12 24 rfl) rfl
theorem q2842 : (Jvm.Cond.soleField "LandMapModel$Rules" "on") ∈ lw_all := lw_g (lw_at lw_m12 25 rfl) rfl
theorem q2843 : (Jvm.Cond.superclass "LandMapModel$Rules" "java/lang/Object") ∈ lw_all := lw_g (lw_at lw_m12 26 rfl) rfl
theorem q2844 : (Jvm.Cond.classLink "LandMapModel" (72 : Nat) "java/util/ArrayList") ∈ lw_all := lw_g (lw_at lw_m12 27 rfl) rfl
theorem q2845 : (Jvm.Cond.methodLink "LandMapModel" (74 : Nat) ({ cls := "java/util/ArrayList", name := "<init>", desc := "()V" } : Jvm.MethodName)) ∈ lw_all := lw_g (lw_at lw_m12 28 rfl) rfl
theorem q2846 : (Jvm.Cond.instanceMethod ({ cls := "java/util/ArrayList", name := "<init>", desc := "()V" } : Jvm.MethodName)) ∈ lw_all := lw_g (lw_at lw_m12 29 rfl) rfl
theorem q2847 : (Jvm.Cond.code ({ cls := "java/util/ArrayList", name := "<init>", desc := "()V" } : Jvm.MethodName) prog_70_method_2_code (1 : Nat) (Option.none : Option Jvm.ClassFile.FieldType)) ∈ lw_all := lw_g (lw_at lw_m12 30 rfl) rfl
theorem q2848 : (Jvm.Cond.classLink "LandMapModel" (82 : Nat) "LandMapModel$Laid") ∈ lw_all := lw_g (lw_at lw_m12 31 rfl) rfl
theorem q2849 : (Jvm.Cond.instantiable "LandMapModel$Laid" (21 : Nat)) ∈ lw_all := lw_g (lw_at lw_m12 32 rfl) rfl
theorem q2850 : (Jvm.Cond.methodLinkNest "LandMapModel" (84 : Nat) ({ cls := "LandMapModel$Laid", name := "<init>", desc := "()V" } : Jvm.MethodName) "LandMapModel") ∈ lw_tbl := lw_at lw_m12 33 rfl
theorem q2851 : (Jvm.Cond.instanceMethod ({ cls := "LandMapModel$Laid", name := "<init>", desc := "()V" } : Jvm.MethodName)) ∈ lw_all := lw_g (lw_at lw_m12 34 rfl) rfl
theorem q2852 : (Jvm.Cond.code ({ cls := "LandMapModel$Laid", name := "<init>", desc := "()V" } : Jvm.MethodName) prog_31_method_1_code (1 : Nat) (Option.none : Option Jvm.ClassFile.FieldType)) ∈ lw_all := lw_g (lw_at lw_m12 35 rfl) rfl
theorem q2853 : (Jvm.Cond.methodLink "LandMapModel$Laid" (3 : Nat) ({ cls := "java/lang/Object", name := "<init>", desc := "()V" } : Jvm.MethodName)) ∈ lw_all := lw_g (lw_at lw_m12 36 rfl) rfl
theorem q2854 : (Jvm.Cond.classLink "LandMapModel$Laid" (9 : Nat) "LandMapModel$Net") ∈ lw_all := lw_g (lw_at lw_m12 37 rfl) rfl
theorem q2855 : (Jvm.Cond.methodLinkNest "LandMapModel$Laid" (11 : Nat) ({ cls := "LandMapModel$Net", name := "<init>", desc := "()V" } : Jvm.MethodName) "LandMapModel") ∈ lw_tbl := lw_at lw_m12 38 rfl
theorem q2856 : (Jvm.Cond.classLink "LandMapModel$Laid" (18 : Nat) "LandMapModel$Places") ∈ lw_all := lw_g (lw_at lw_m12 39 rfl) rfl
theorem q2857 : (Jvm.Cond.methodLinkNest "LandMapModel$Laid" (20 : Nat) ({ cls := "LandMapModel$Places", name := "<init>", desc := "()V" } : Jvm.MethodName) "LandMapModel") ∈ lw_tbl := lw_at lw_m12 40 rfl
theorem q2858 : (Jvm.Cond.classLink "LandMapModel$Laid" (25 : Nat) "LandMapModel$Steps") ∈ lw_all := lw_g (lw_at lw_m12 41 rfl) rfl
theorem q2859 : (Jvm.Cond.methodLinkNest "LandMapModel$Laid" (27 : Nat) ({ cls := "LandMapModel$Steps", name := "<init>", desc := "()V" } : Jvm.MethodName) "LandMapModel") ∈ lw_tbl := lw_at lw_m12 42 rfl
theorem q2860 : (Jvm.Cond.classLink "LandMapModel$Laid" (32 : Nat) "LandMapModel$Feature") ∈ lw_all := lw_g (lw_at lw_m12 43 rfl) rfl
theorem q2861 : (Jvm.Cond.arrayOver (Jvm.ClassFile.FieldType.object "LandMapModel$Feature")) ∈ lw_tbl := lw_at lw_m12 44 rfl
theorem q2862 : (Jvm.Cond.classLink "LandMapModel$Laid" (49 : Nat) "[[I") ∈ lw_all := lw_g (lw_at lw_m12 45 rfl) rfl
theorem q2863 : (Jvm.Cond.arrayOver (Jvm.ClassFile.FieldType.array Jvm.ClassFile.FieldType.int)) ∈ lw_tbl := lw_at lw_m12 46 rfl
theorem q2864 : (Jvm.Cond.classLink "LandMapModel$Laid" (63 : Nat) "LandMapModel$Ints") ∈ lw_all := lw_g (lw_at lw_m12 47 rfl) rfl
theorem q2865 : (Jvm.Cond.methodLinkNest "LandMapModel$Laid" (65 : Nat) ({ cls := "LandMapModel$Ints", name := "<init>", desc := "()V" } : Jvm.MethodName) "LandMapModel") ∈ lw_tbl := lw_at lw_m12 48 rfl
theorem q2866 : (Jvm.Cond.fieldLink "LandMapModel$Laid" (12 : Nat) "LandMapModel$Laid" "net" "LLandMapModel$Net;") ∈ lw_all := lw_g (lw_at lw_m12 49 rfl) rfl
theorem q2867 : (Jvm.Cond.fieldLink "LandMapModel$Relation" (51 : Nat) "LandMapModel$Laid" "net" "LLandMapModel$Net;") ∈ lw_all := lw_g (lw_at lw_m12 50 rfl) rfl
theorem q2868 : (Jvm.Cond.fieldLink "LandMapModel$Overlay" (54 : Nat) "LandMapModel$Laid" "net" "LLandMapModel$Net;") ∈ lw_all := lw_g (lw_at lw_m12 51 rfl) rfl
theorem q2869 : (Jvm.Cond.fieldLink "LandMapModel$Roads" (139 : Nat) "LandMapModel$Laid" "net" "LLandMapModel$Net;") ∈ lw_all := lw_g (lw_at lw_m12 52 rfl) rfl
theorem q2870 : (Jvm.Cond.fieldLink "LandMapModel" (307 : Nat) "LandMapModel$Laid" "net" "LLandMapModel$Net;") ∈ lw_all := lw_g (lw_at lw_m12 53 rfl) rfl
theorem q2871 : (Jvm.Cond.fieldLink "LandMapModel$Laid" (21 : Nat) "LandMapModel$Laid" "hot" "LLandMapModel$Places;") ∈ lw_all := lw_g (lw_at lw_m12 54 rfl) rfl
theorem q2872 : (Jvm.Cond.fieldLink "LandMapModel$Relation" (101 : Nat) "LandMapModel$Laid" "hot" "LLandMapModel$Places;") ∈ lw_all := lw_g (lw_at lw_m12 55 rfl) rfl
theorem q2873 : (Jvm.Cond.fieldLink "LandMapModel$Roads" (146 : Nat) "LandMapModel$Laid" "hot" "LLandMapModel$Places;") ∈ lw_all := lw_g (lw_at lw_m12 56 rfl) rfl
theorem q2874 : (Jvm.Cond.fieldLink "LandMapModel" (322 : Nat) "LandMapModel$Laid" "hot" "LLandMapModel$Places;") ∈ lw_all := lw_g (lw_at lw_m12 57 rfl) rfl
theorem q2875 : (Jvm.Cond.fieldLink "LandMapModel$Laid" (28 : Nat) "LandMapModel$Laid" "steps" "LLandMapModel$Steps;") ∈ lw_all := lw_g (lw_at lw_m12 58 rfl) rfl
theorem q2876 : (Jvm.Cond.fieldLink "LandMapModel$Roads" (60 : Nat) "LandMapModel$Laid" "steps" "LLandMapModel$Steps;") ∈ lw_all := lw_g (lw_at lw_m12 59 rfl) rfl
theorem q2877 : (Jvm.Cond.fieldLink "LandMapModel$Relation" (123 : Nat) "LandMapModel$Laid" "steps" "LLandMapModel$Steps;") ∈ lw_all := lw_g (lw_at lw_m12 60 rfl) rfl
theorem q2878 : (Jvm.Cond.fieldLink "LandMapModel$Laid" (34 : Nat) "LandMapModel$Laid" "features" "[LLandMapModel$Feature;") ∈ lw_all := lw_g (lw_at lw_m12 61 rfl) rfl
theorem q2879 : (Jvm.Cond.fieldLink "LandMapModel$Roads" (80 : Nat) "LandMapModel$Laid" "features" "[LLandMapModel$Feature;") ∈ lw_all := lw_g (lw_at lw_m12 62 rfl) rfl
theorem q2880 : (Jvm.Cond.fieldLink "LandMapModel$Relation" (92 : Nat) "LandMapModel$Laid" "features" "[LLandMapModel$Feature;") ∈ lw_all := lw_g (lw_at lw_m12 63 rfl) rfl
theorem q2881 : (Jvm.Cond.fieldLink "LandMapModel$Overlay" (158 : Nat) "LandMapModel$Laid" "features" "[LLandMapModel$Feature;") ∈ lw_all := lw_g (lw_at lw_m12 64 rfl) rfl
theorem q2882 : (Jvm.Cond.fieldLink "LandMapModel" (433 : Nat) "LandMapModel$Laid" "features" "[LLandMapModel$Feature;") ∈ lw_all := lw_g (lw_at lw_m12 65 rfl) rfl
theorem q2883 : (Jvm.Cond.fieldLink "LandMapModel$Laid" (38 : Nat) "LandMapModel$Laid" "numbers" "[I") ∈ lw_all := lw_g (lw_at lw_m12 66 rfl) rfl
theorem q2884 : (Jvm.Cond.fieldLink "LandMapModel" (349 : Nat) "LandMapModel$Laid" "numbers" "[I") ∈ lw_all := lw_g (lw_at lw_m12 67 rfl) rfl
theorem q2885 : (Jvm.Cond.fieldLink "LandMapModel$Laid" (42 : Nat) "LandMapModel$Laid" "isSecond" "[Z") ∈ lw_all := lw_g (lw_at lw_m12 68 rfl) rfl
theorem q2886 : (Jvm.Cond.fieldLink "LandMapModel$Roads" (77 : Nat) "LandMapModel$Laid" "isSecond" "[Z") ∈ lw_all := lw_g (lw_at lw_m12 69 rfl) rfl
theorem q2887 : (Jvm.Cond.fieldLink "LandMapModel$Laid" (76 : Nat) "LandMapModel$Laid" "many" "I") ∈ lw_all := lw_g (lw_at lw_m12 70 rfl) rfl
theorem q2888 : (Jvm.Cond.fieldLink "LandMapModel$Laid" (46 : Nat) "LandMapModel$Laid" "times" "[I") ∈ lw_all := lw_g (lw_at lw_m12 71 rfl) rfl
theorem q2889 : (Jvm.Cond.fieldLink "LandMapModel$Laid" (51 : Nat) "LandMapModel$Laid" "edges" "[[I") ∈ lw_all := lw_g (lw_at lw_m12 72 rfl) rfl
theorem q2890 : (Jvm.Cond.fieldLink "LandMapModel" (330 : Nat) "LandMapModel$Laid" "edges" "[[I") ∈ lw_all := lw_g (lw_at lw_m12 73 rfl) rfl
theorem q2891 : (Jvm.Cond.fieldLink "LandMapModel$Laid" (54 : Nat) "LandMapModel$Laid" "counts" "[[I") ∈ lw_all := lw_g (lw_at lw_m12 74 rfl) rfl
theorem q2892 : (Jvm.Cond.fieldLink "LandMapModel$Overlay" (78 : Nat) "LandMapModel$Laid" "counts" "[[I") ∈ lw_all := lw_g (lw_at lw_m12 75 rfl) rfl
theorem q2893 : (Jvm.Cond.fieldLink "LandMapModel" (355 : Nat) "LandMapModel$Laid" "counts" "[[I") ∈ lw_all := lw_g (lw_at lw_m12 76 rfl) rfl
theorem q2894 : (Jvm.Cond.fieldLink "LandMapModel$Laid" (57 : Nat) "LandMapModel$Laid" "leasts" "[[I") ∈ lw_all := lw_g (lw_at lw_m12 77 rfl) rfl
theorem q2895 : (Jvm.Cond.fieldLink "LandMapModel$Overlay" (48 : Nat) "LandMapModel$Laid" "leasts" "[[I") ∈ lw_all := lw_g (lw_at lw_m12 78 rfl) rfl
theorem q2896 : (Jvm.Cond.fieldLink "LandMapModel" (357 : Nat) "LandMapModel$Laid" "leasts" "[[I") ∈ lw_all := lw_g (lw_at lw_m12 79 rfl) rfl
theorem q2897 : (Jvm.Cond.fieldLink "LandMapModel$Laid" (60 : Nat) "LandMapModel$Laid" "covered" "[Z") ∈ lw_all := lw_g (lw_at lw_m12 80 rfl) rfl
theorem q2898 : (Jvm.Cond.fieldLink "LandMapModel$Laid" (66 : Nat) "LandMapModel$Laid" "whose" "LLandMapModel$Ints;") ∈ lw_all := lw_g (lw_at lw_m12 81 rfl) rfl
theorem q2899 : (Jvm.Cond.fieldLink "LandMapModel$Laid" (70 : Nat) "LandMapModel$Laid" "ends" "LLandMapModel$Ints;") ∈ lw_all := lw_g (lw_at lw_m12 82 rfl) rfl
theorem q2900 : (Jvm.Cond.fieldLink "LandMapModel$Laid" (73 : Nat) "LandMapModel$Laid" "along" "LLandMapModel$Ints;") ∈ lw_all := lw_g (lw_at lw_m12 83 rfl) rfl
theorem q2901 : (Jvm.Cond.fieldLink "LandMapModel$Laid" (172 : Nat) "LandMapModel$Laid" "fromOver" "J") ∈ lw_all := lw_g (lw_at lw_m12 84 rfl) rfl
theorem q2902 : (Jvm.Cond.fieldLink "LandMapModel$Laid" (168 : Nat) "LandMapModel$Laid" "fromUnder" "J") ∈ lw_all := lw_g (lw_at lw_m12 85 rfl) rfl
theorem q2903 : (Jvm.Cond.fieldLink "LandMapModel$Laid" (182 : Nat) "LandMapModel$Laid" "toOver" "J") ∈ lw_all := lw_g (lw_at lw_m12 86 rfl) rfl
theorem q2904 : (Jvm.Cond.fieldLink "LandMapModel$Laid" (179 : Nat) "LandMapModel$Laid" "toUnder" "J") ∈ lw_all := lw_g (lw_at lw_m12 87 rfl) rfl
theorem q2905 : (Jvm.Cond.fieldLink "LandMapModel$Laid" (175 : Nat) "LandMapModel$Laid" "hasFrom" "Z") ∈ lw_all := lw_g (lw_at lw_m12 88 rfl) rfl
theorem q2906 : (Jvm.Cond.fieldLink "LandMapModel$Laid" (185 : Nat) "LandMapModel$Laid" "hasTo" "Z") ∈ lw_all := lw_g (lw_at lw_m12 89 rfl) rfl
theorem q2907 : (Jvm.Cond.laysFinal "LandMapModel$Laid" "LandMapModel$Laid" "net" "LLandMapModel$Net;") ∈ lw_all := lw_g (lw_at lw_m12 90 rfl) rfl
theorem q2908 : (Jvm.Cond.soleField "LandMapModel$Laid" "net") ∈ lw_all := lw_g (lw_at lw_m12 91 rfl) rfl
theorem q2909 : (Jvm.Cond.laysFinal "LandMapModel$Laid" "LandMapModel$Laid" "hot" "LLandMapModel$Places;") ∈ lw_all := lw_g (lw_at lw_m12 92 rfl) rfl
theorem q2910 : (Jvm.Cond.soleField "LandMapModel$Laid" "hot") ∈ lw_all := lw_g (lw_at lw_m12 93 rfl) rfl
theorem q2911 : (Jvm.Cond.laysFinal "LandMapModel$Laid" "LandMapModel$Laid" "steps" "LLandMapModel$Steps;") ∈ lw_all := lw_g (lw_at lw_m12 94 rfl) rfl
theorem q2912 : (Jvm.Cond.soleField "LandMapModel$Laid" "steps") ∈ lw_all := lw_g (lw_at lw_m12 95 rfl) rfl
theorem q2913 : (Jvm.Cond.laysFinal "LandMapModel$Laid" "LandMapModel$Laid" "features" "[LLandMapModel$Feature;") ∈ lw_all := lw_g (lw_at lw_m12 96 rfl) rfl
theorem q2914 : (Jvm.Cond.soleField "LandMapModel$Laid" "features") ∈ lw_all := lw_g (lw_at lw_m12 97 rfl) rfl
theorem q2915 : (Jvm.Cond.laysFinal "LandMapModel$Laid" "LandMapModel$Laid" "numbers" "[I") ∈ lw_all := lw_g (lw_at lw_m12 98 rfl) rfl
theorem q2916 : (Jvm.Cond.soleField "LandMapModel$Laid" "numbers") ∈ lw_all := lw_g (lw_at lw_m12 99 rfl) rfl
theorem q2917 : (Jvm.Cond.laysFinal "LandMapModel$Laid" "LandMapModel$Laid" "isSecond" "[Z") ∈ lw_all := lw_g (lw_at lw_m12 100 rfl) rfl
theorem q2918 : (Jvm.Cond.soleField "LandMapModel$Laid" "isSecond") ∈ lw_all := lw_g (lw_at lw_m12 101 rfl) rfl
theorem q2919 : (Jvm.Cond.lays "LandMapModel$Laid" "LandMapModel$Laid" "many" "I") ∈ lw_all := lw_g (lw_at lw_m12 102 rfl) rfl
theorem q2920 : (Jvm.Cond.soleField "LandMapModel$Laid" "many") ∈ lw_all := lw_g (lw_at lw_m12 103 rfl) rfl
theorem q2921 : (Jvm.Cond.lays "LandMapModel$Laid" "LandMapModel$Laid" "times" "[I") ∈ lw_all := lw_g (lw_at lw_m12 104 rfl) rfl
theorem q2922 : (Jvm.Cond.soleField "LandMapModel$Laid" "times") ∈ lw_all := lw_g (lw_at lw_m12 105 rfl) rfl
theorem q2923 : (Jvm.Cond.lays "LandMapModel$Laid" "LandMapModel$Laid" "edges" "[[I") ∈ lw_all := lw_g (lw_at lw_m12 106 rfl) rfl
theorem q2924 : (Jvm.Cond.soleField "LandMapModel$Laid" "edges") ∈ lw_all := lw_g (lw_at lw_m12 107 rfl) rfl
theorem q2925 : (Jvm.Cond.lays "LandMapModel$Laid" "LandMapModel$Laid" "counts" "[[I") ∈ lw_all := lw_g (lw_at lw_m12 108 rfl) rfl
theorem q2926 : (Jvm.Cond.soleField "LandMapModel$Laid" "counts") ∈ lw_all := lw_g (lw_at lw_m12 109 rfl) rfl
theorem q2927 : (Jvm.Cond.lays "LandMapModel$Laid" "LandMapModel$Laid" "leasts" "[[I") ∈ lw_all := lw_g (lw_at lw_m12 110 rfl) rfl
theorem q2928 : (Jvm.Cond.soleField "LandMapModel$Laid" "leasts") ∈ lw_all := lw_g (lw_at lw_m12 111 rfl) rfl
theorem q2929 : (Jvm.Cond.lays "LandMapModel$Laid" "LandMapModel$Laid" "covered" "[Z") ∈ lw_all := lw_g (lw_at lw_m12 112 rfl) rfl
theorem q2930 : (Jvm.Cond.soleField "LandMapModel$Laid" "covered") ∈ lw_all := lw_g (lw_at lw_m12 113 rfl) rfl
theorem q2931 : (Jvm.Cond.laysFinal "LandMapModel$Laid" "LandMapModel$Laid" "whose" "LLandMapModel$Ints;") ∈ lw_all := lw_g (lw_at lw_m12 114 rfl) rfl
theorem q2932 : (Jvm.Cond.soleField "LandMapModel$Laid" "whose") ∈ lw_all := lw_g (lw_at lw_m12 115 rfl) rfl
theorem q2933 : (Jvm.Cond.laysFinal "LandMapModel$Laid" "LandMapModel$Laid" "ends" "LLandMapModel$Ints;") ∈ lw_all := lw_g (lw_at lw_m12 116 rfl) rfl
theorem q2934 : (Jvm.Cond.soleField "LandMapModel$Laid" "ends") ∈ lw_all := lw_g (lw_at lw_m12 117 rfl) rfl
theorem q2935 : (Jvm.Cond.laysFinal "LandMapModel$Laid" "LandMapModel$Laid" "along" "LLandMapModel$Ints;") ∈ lw_all := lw_g (lw_at lw_m12 118 rfl) rfl
theorem q2936 : (Jvm.Cond.soleField "LandMapModel$Laid" "along") ∈ lw_all := lw_g (lw_at lw_m12 119 rfl) rfl
theorem q2937 : (Jvm.Cond.lays "LandMapModel$Laid" "LandMapModel$Laid" "fromOver" "J") ∈ lw_all := lw_g (lw_at lw_m12 120 rfl) rfl
theorem q2938 : (Jvm.Cond.soleField "LandMapModel$Laid" "fromOver") ∈ lw_all := lw_g (lw_at lw_m12 121 rfl) rfl
theorem q2939 : (Jvm.Cond.lays "LandMapModel$Laid" "LandMapModel$Laid" "fromUnder" "J") ∈ lw_all := lw_g (lw_at lw_m12 122 rfl) rfl
theorem q2940 : (Jvm.Cond.soleField "LandMapModel$Laid" "fromUnder") ∈ lw_all := lw_g (lw_at lw_m12 123 rfl) rfl
theorem q2941 : (Jvm.Cond.lays "LandMapModel$Laid" "LandMapModel$Laid" "toOver" "J") ∈ lw_all := lw_g (lw_at lw_m12 124 rfl) rfl
theorem q2942 : (Jvm.Cond.soleField "LandMapModel$Laid" "toOver") ∈ lw_all := lw_g (lw_at lw_m12 125 rfl) rfl
theorem q2943 : (Jvm.Cond.lays "LandMapModel$Laid" "LandMapModel$Laid" "toUnder" "J") ∈ lw_all := lw_g (lw_at lw_m12 126 rfl) rfl
theorem q2944 : (Jvm.Cond.soleField "LandMapModel$Laid" "toUnder") ∈ lw_all := lw_g (lw_at lw_m12 127 rfl) rfl
theorem q2945 : (Jvm.Cond.lays "LandMapModel$Laid" "LandMapModel$Laid" "hasFrom" "Z") ∈ lw_all := lw_g (lw_at lw_m12 128 rfl) rfl
theorem q2946 : (Jvm.Cond.soleField "LandMapModel$Laid" "hasFrom") ∈ lw_all := lw_g (lw_at lw_m12 129 rfl) rfl
theorem q2947 : (Jvm.Cond.lays "LandMapModel$Laid" "LandMapModel$Laid" "hasTo" "Z") ∈ lw_all := lw_g (lw_at lw_m12 130 rfl) rfl
theorem q2948 : (Jvm.Cond.soleField "LandMapModel$Laid" "hasTo") ∈ lw_all := lw_g (lw_at lw_m12 131 rfl) rfl
theorem q2949 : (Jvm.Cond.superclass "LandMapModel$Laid" "java/lang/Object") ∈ lw_all := lw_g (lw_at lw_m12 132 rfl) rfl
theorem q2950 : (Jvm.Cond.classLink "LandMapModel" (92 : Nat) "LandMapModel$Overlay") ∈ lw_all := lw_g (lw_at lw_m12 133 rfl) rfl
theorem q2951 : (Jvm.Cond.instantiable "LandMapModel$Overlay" (11 : Nat)) ∈ lw_all := lw_g (lw_at lw_m12 134 rfl) rfl
theorem q2952 : (Jvm.Cond.methodLinkNest "LandMapModel" (94 : Nat) ({ cls := "LandMapModel$Overlay", name := "<init>", desc := "()V" } : Jvm.MethodName) "LandMapModel") ∈ lw_tbl := lw_at lw_m12 135 rfl
theorem q2953 : (Jvm.Cond.instanceMethod ({ cls := "LandMapModel$Overlay", name := "<init>", desc := "()V" } : Jvm.MethodName)) ∈ lw_all := lw_g (lw_at lw_m12 136 rfl) rfl
theorem q2954 : (Jvm.Cond.code ({ cls := "LandMapModel$Overlay", name := "<init>", desc := "()V" } : Jvm.MethodName) prog_33_method_1_code (1 : Nat) (Option.none : Option Jvm.ClassFile.FieldType)) ∈ lw_all := lw_g (lw_at lw_m12 137 rfl) rfl
theorem q2955 : (Jvm.Cond.methodLink "LandMapModel$Overlay" (3 : Nat) ({ cls := "java/lang/Object", name := "<init>", desc := "()V" } : Jvm.MethodName)) ∈ lw_all := lw_g (lw_at lw_m12 138 rfl) rfl
theorem q2956 : (Jvm.Cond.classLink "LandMapModel$Overlay" (22 : Nat) "LandMapModel$Ints") ∈ lw_all := lw_g (lw_at lw_m12 139 rfl) rfl
theorem q2957 : (Jvm.Cond.methodLinkNest "LandMapModel$Overlay" (24 : Nat) ({ cls := "LandMapModel$Ints", name := "<init>", desc := "()V" } : Jvm.MethodName) "LandMapModel") ∈ lw_tbl := lw_at lw_m12 140 rfl
theorem q2958 : (Jvm.Cond.fieldLink "LandMapModel$Overlay" (44 : Nat) "LandMapModel$Overlay" "laid" "LLandMapModel$Laid;") ∈ lw_all := lw_g (lw_at lw_m12 141 rfl) rfl
theorem q2959 : (Jvm.Cond.fieldLink "LandMapModel$Overlay" (58 : Nat) "LandMapModel$Overlay" "net" "LLandMapModel$Net;") ∈ lw_all := lw_g (lw_at lw_m12 142 rfl) rfl
theorem q2960 : (Jvm.Cond.fieldLink "LandMapModel$Overlay" (9 : Nat) "LandMapModel$Overlay" "whole" "[I") ∈ lw_all := lw_g (lw_at lw_m12 143 rfl) rfl
theorem q2961 : (Jvm.Cond.fieldLink "LandMapModel$Overlay" (15 : Nat) "LandMapModel$Overlay" "done" "[Z") ∈ lw_all := lw_g (lw_at lw_m12 144 rfl) rfl
theorem q2962 : (Jvm.Cond.fieldLink "LandMapModel$Overlay" (19 : Nat) "LandMapModel$Overlay" "stands" "[I") ∈ lw_all := lw_g (lw_at lw_m12 145 rfl) rfl
theorem q2963 : (Jvm.Cond.fieldLink "LandMapModel$Overlay" (25 : Nat) "LandMapModel$Overlay" "pile" "LLandMapModel$Ints;") ∈ lw_all := lw_g (lw_at lw_m12 146 rfl) rfl
theorem q2964 : (Jvm.Cond.fieldLink "LandMapModel$Overlay" (29 : Nat) "LandMapModel$Overlay" "row" "LLandMapModel$Ints;") ∈ lw_all := lw_g (lw_at lw_m12 147 rfl) rfl
theorem q2965 : (Jvm.Cond.fieldLink "LandMapModel$Overlay" (32 : Nat) "LandMapModel$Overlay" "rings" "LLandMapModel$Ints;") ∈ lw_all := lw_g (lw_at lw_m12 148 rfl) rfl
theorem q2966 : (Jvm.Cond.fieldLink "LandMapModel$Overlay" (35 : Nat) "LandMapModel$Overlay" "begins" "LLandMapModel$Ints;") ∈ lw_all := lw_g (lw_at lw_m12 149 rfl) rfl
theorem q2967 : (Jvm.Cond.fieldLink "LandMapModel$Overlay" (38 : Nat) "LandMapModel$Overlay" "faces" "LLandMapModel$Ints;") ∈ lw_all := lw_g (lw_at lw_m12 150 rfl) rfl
theorem q2968 : (Jvm.Cond.fieldLink "LandMapModel$Overlay" (41 : Nat) "LandMapModel$Overlay" "firsts" "LLandMapModel$Ints;") ∈ lw_all := lw_g (lw_at lw_m12 151 rfl) rfl
theorem q2969 : (Jvm.Cond.lays "LandMapModel$Overlay" "LandMapModel$Overlay" "laid" "LLandMapModel$Laid;") ∈ lw_all := lw_g (lw_at lw_m12 152 rfl) rfl
theorem q2970 : (Jvm.Cond.soleField "LandMapModel$Overlay" "laid") ∈ lw_all := lw_g (lw_at lw_m12 153 rfl) rfl
theorem q2971 : (Jvm.Cond.lays "LandMapModel$Overlay" "LandMapModel$Overlay" "net" "LLandMapModel$Net;") ∈ lw_all := lw_g (lw_at lw_m12 154 rfl) rfl
theorem q2972 : (Jvm.Cond.soleField "LandMapModel$Overlay" "net") ∈ lw_all := lw_g (lw_at lw_m12 155 rfl) rfl
theorem q2973 : (Jvm.Cond.lays "LandMapModel$Overlay" "LandMapModel$Overlay" "whole" "[I") ∈ lw_all := lw_g (lw_at lw_m12 156 rfl) rfl
theorem q2974 : (Jvm.Cond.soleField "LandMapModel$Overlay" "whole") ∈ lw_all := lw_g (lw_at lw_m12 157 rfl) rfl
theorem q2975 : (Jvm.Cond.lays "LandMapModel$Overlay" "LandMapModel$Overlay" "done" "[Z") ∈ lw_all := lw_g (lw_at lw_m12 158 rfl) rfl
theorem q2976 : (Jvm.Cond.soleField "LandMapModel$Overlay" "done") ∈ lw_all := lw_g (lw_at lw_m12 159 rfl) rfl
theorem q2977 : (Jvm.Cond.lays "LandMapModel$Overlay" "LandMapModel$Overlay" "stands" "[I") ∈ lw_all := lw_g (lw_at lw_m12 160 rfl) rfl
theorem q2978 : (Jvm.Cond.soleField "LandMapModel$Overlay" "stands") ∈ lw_all := lw_g (lw_at lw_m12 161 rfl) rfl
theorem q2979 : (Jvm.Cond.laysFinal "LandMapModel$Overlay" "LandMapModel$Overlay" "pile" "LLandMapModel$Ints;") ∈ lw_all := lw_g (lw_at lw_m12 162 rfl) rfl
theorem q2980 : (Jvm.Cond.soleField "LandMapModel$Overlay" "pile") ∈ lw_all := lw_g (lw_at lw_m12 163 rfl) rfl
theorem q2981 : (Jvm.Cond.laysFinal "LandMapModel$Overlay" "LandMapModel$Overlay" "row" "LLandMapModel$Ints;") ∈ lw_all := lw_g (lw_at lw_m12 164 rfl) rfl
theorem q2982 : (Jvm.Cond.soleField "LandMapModel$Overlay" "row") ∈ lw_all := lw_g (lw_at lw_m12 165 rfl) rfl
theorem q2983 : (Jvm.Cond.laysFinal "LandMapModel$Overlay" "LandMapModel$Overlay" "rings" "LLandMapModel$Ints;") ∈ lw_all := lw_g (lw_at lw_m12 166 rfl) rfl
theorem q2984 : (Jvm.Cond.soleField "LandMapModel$Overlay" "rings") ∈ lw_all := lw_g (lw_at lw_m12 167 rfl) rfl
theorem q2985 : (Jvm.Cond.laysFinal "LandMapModel$Overlay" "LandMapModel$Overlay" "begins" "LLandMapModel$Ints;") ∈ lw_all := lw_g (lw_at lw_m12 168 rfl) rfl
theorem q2986 : (Jvm.Cond.soleField "LandMapModel$Overlay" "begins") ∈ lw_all := lw_g (lw_at lw_m12 169 rfl) rfl
theorem q2987 : (Jvm.Cond.laysFinal "LandMapModel$Overlay" "LandMapModel$Overlay" "faces" "LLandMapModel$Ints;") ∈ lw_all := lw_g (lw_at lw_m12 170 rfl) rfl
theorem q2988 : (Jvm.Cond.soleField "LandMapModel$Overlay" "faces") ∈ lw_all := lw_g (lw_at lw_m12 171 rfl) rfl
theorem q2989 : (Jvm.Cond.laysFinal "LandMapModel$Overlay" "LandMapModel$Overlay" "firsts" "LLandMapModel$Ints;") ∈ lw_all := lw_g (lw_at lw_m12 172 rfl) rfl
theorem q2990 : (Jvm.Cond.soleField "LandMapModel$Overlay" "firsts") ∈ lw_all := lw_g (lw_at lw_m12 173 rfl) rfl
theorem q2991 : (Jvm.Cond.superclass "LandMapModel$Overlay" "java/lang/Object") ∈ lw_all := lw_g (lw_at lw_m12 174 rfl) rfl
theorem q2992 : (Jvm.Cond.classLink "LandMapModel" (99 : Nat) "LandMapModel$Relation") ∈ lw_all := lw_g (lw_at lw_m12 175 rfl) rfl
theorem q2993 : (Jvm.Cond.instantiable "LandMapModel$Relation" (7 : Nat)) ∈ lw_all := lw_g (lw_at lw_m12 176 rfl) rfl
theorem q2994 : (Jvm.Cond.methodLinkNest "LandMapModel" (101 : Nat) ({ cls := "LandMapModel$Relation", name := "<init>", desc := "()V" } : Jvm.MethodName) "LandMapModel") ∈ lw_tbl := lw_at lw_m12 177 rfl
theorem q2995 : (Jvm.Cond.instanceMethod ({ cls := "LandMapModel$Relation", name := "<init>", desc := "()V" } : Jvm.MethodName)) ∈ lw_all := lw_g (lw_at lw_m12 178 rfl) rfl
theorem q2996 : (Jvm.Cond.code ({ cls := "LandMapModel$Relation", name := "<init>", desc := "()V" } : Jvm.MethodName) prog_36_method_1_code (1 : Nat) (Option.none : Option Jvm.ClassFile.FieldType)) ∈ lw_all := lw_g (lw_at lw_m12 179 rfl) rfl
theorem q2997 : (Jvm.Cond.methodLink "LandMapModel$Relation" (3 : Nat) ({ cls := "java/lang/Object", name := "<init>", desc := "()V" } : Jvm.MethodName)) ∈ lw_all := lw_g (lw_at lw_m12 180 rfl) rfl
theorem q2998 : (Jvm.Cond.classLink "LandMapModel$Relation" (9 : Nat) "LandMapModel$Laid") ∈ lw_all := lw_g (lw_at lw_m12 181 rfl) rfl
theorem q2999 : (Jvm.Cond.methodLinkNest "LandMapModel$Relation" (11 : Nat) ({ cls := "LandMapModel$Laid", name := "<init>", desc := "()V" } : Jvm.MethodName) "LandMapModel") ∈ lw_tbl := lw_at lw_m12 182 rfl
theorem q3000 : (Jvm.Cond.classLink "LandMapModel$Relation" (22 : Nat) "[[I") ∈ lw_all := lw_g (lw_at lw_m12 183 rfl) rfl
theorem q3001 : (Jvm.Cond.fieldLink "LandMapModel$Relation" (12 : Nat) "LandMapModel$Relation" "laid" "LLandMapModel$Laid;") ∈ lw_all := lw_g (lw_at lw_m12 184 rfl) rfl
theorem q3002 : (Jvm.Cond.fieldLink "LandMapModel$Relation" (18 : Nat) "LandMapModel$Relation" "entries" "[I") ∈ lw_all := lw_g (lw_at lw_m12 185 rfl) rfl
theorem q3003 : (Jvm.Cond.fieldLink "LandMapModel" (388 : Nat) "LandMapModel$Relation" "entries" "[I") ∈ lw_all := lw_g (lw_at lw_m12 186 rfl) rfl
theorem q3004 : (Jvm.Cond.fieldLink "LandMapModel$Relation" (24 : Nat) "LandMapModel$Relation" "faces" "[[I") ∈ lw_all := lw_g (lw_at lw_m12 187 rfl) rfl
theorem q3005 : (Jvm.Cond.fieldLink "LandMapModel$Relation" (27 : Nat) "LandMapModel$Relation" "pieces" "[[I") ∈ lw_all := lw_g (lw_at lw_m12 188 rfl) rfl
theorem q3006 : (Jvm.Cond.fieldLink "LandMapModel$Relation" (30 : Nat) "LandMapModel$Relation" "nodes" "[[I") ∈ lw_all := lw_g (lw_at lw_m12 189 rfl) rfl
theorem q3007 : (Jvm.Cond.fieldLink "LandMapModel$Relation" (33 : Nat) "LandMapModel$Relation" "covered" "[Z") ∈ lw_all := lw_g (lw_at lw_m12 190 rfl) rfl
theorem q3008 : (Jvm.Cond.fieldLink "LandMapModel$Relation" (37 : Nat) "LandMapModel$Relation" "aroundNode" "[I") ∈ lw_all := lw_g (lw_at lw_m12 191 rfl) rfl
theorem q3009 : (Jvm.Cond.laysFinal "LandMapModel$Relation" "LandMapModel$Relation" "laid" "LLandMapModel$Laid;") ∈ lw_all := lw_g (lw_at lw_m12 192 rfl) rfl
theorem q3010 : (Jvm.Cond.soleField "LandMapModel$Relation" "laid") ∈ lw_all := lw_g (lw_at lw_m12 193 rfl) rfl
theorem q3011 : (Jvm.Cond.laysFinal "LandMapModel$Relation" "LandMapModel$Relation" "entries" "[I") ∈ lw_all := lw_g (lw_at lw_m12 194 rfl) rfl
theorem q3012 : (Jvm.Cond.soleField "LandMapModel$Relation" "entries") ∈ lw_all := lw_g (lw_at lw_m12 195 rfl) rfl
theorem q3013 : (Jvm.Cond.lays "LandMapModel$Relation" "LandMapModel$Relation" "faces" "[[I") ∈ lw_all := lw_g (lw_at lw_m12 196 rfl) rfl
theorem q3014 : (Jvm.Cond.soleField "LandMapModel$Relation" "faces") ∈ lw_all := lw_g (lw_at lw_m12 197 rfl) rfl
theorem q3015 : (Jvm.Cond.lays "LandMapModel$Relation" "LandMapModel$Relation" "pieces" "[[I") ∈ lw_all := lw_g (lw_at lw_m12 198 rfl) rfl
theorem q3016 : (Jvm.Cond.soleField "LandMapModel$Relation" "pieces") ∈ lw_all := lw_g (lw_at lw_m12 199 rfl) rfl
theorem q3017 : (Jvm.Cond.lays "LandMapModel$Relation" "LandMapModel$Relation" "nodes" "[[I") ∈ lw_all := lw_g (lw_at lw_m12 200 rfl) rfl
theorem q3018 : (Jvm.Cond.soleField "LandMapModel$Relation" "nodes") ∈ lw_all := lw_g (lw_at lw_m12 201 rfl) rfl
theorem q3019 : (Jvm.Cond.lays "LandMapModel$Relation" "LandMapModel$Relation" "covered" "[Z") ∈ lw_all := lw_g (lw_at lw_m12 202 rfl) rfl
theorem q3020 : (Jvm.Cond.soleField "LandMapModel$Relation" "covered") ∈ lw_all := lw_g (lw_at lw_m12 203 rfl) rfl
theorem q3021 : (Jvm.Cond.lays "LandMapModel$Relation" "LandMapModel$Relation" "aroundNode" "[I") ∈ lw_all := lw_g (lw_at lw_m12 204 rfl) rfl
theorem q3022 : (Jvm.Cond.soleField "LandMapModel$Relation" "aroundNode") ∈ lw_all := lw_g (lw_at lw_m12 205 rfl) rfl
theorem q3023 : (Jvm.Cond.superclass "LandMapModel$Relation" "java/lang/Object") ∈ lw_all := lw_g (lw_at lw_m12 206 rfl) rfl
theorem q3024 : (Jvm.Cond.classLink "LandMapModel" (109 : Nat) "LandMapModel$Roads") ∈ lw_all := lw_g (lw_at lw_m12 207 rfl) rfl
theorem q3025 : (Jvm.Cond.instantiable "LandMapModel$Roads" (11 : Nat)) ∈ lw_all := lw_g (lw_at lw_m12 208 rfl) rfl
theorem q3026 : (Jvm.Cond.methodLinkNest "LandMapModel" (111 : Nat) ({ cls := "LandMapModel$Roads", name := "<init>", desc := "()V" } : Jvm.MethodName) "LandMapModel") ∈ lw_tbl := lw_at lw_m12 209 rfl
theorem q3027 : (Jvm.Cond.instanceMethod ({ cls := "LandMapModel$Roads", name := "<init>", desc := "()V" } : Jvm.MethodName)) ∈ lw_all := lw_g (lw_at lw_m12 210 rfl) rfl
theorem q3028 : (Jvm.Cond.code ({ cls := "LandMapModel$Roads", name := "<init>", desc := "()V" } : Jvm.MethodName) prog_37_method_1_code (1 : Nat) (Option.none : Option Jvm.ClassFile.FieldType)) ∈ lw_all := lw_g (lw_at lw_m12 211 rfl) rfl
theorem q3029 : (Jvm.Cond.methodLink "LandMapModel$Roads" (3 : Nat) ({ cls := "java/lang/Object", name := "<init>", desc := "()V" } : Jvm.MethodName)) ∈ lw_all := lw_g (lw_at lw_m12 212 rfl) rfl
theorem q3030 : (Jvm.Cond.classLink "LandMapModel$Roads" (32 : Nat) "LandMapModel$Ints") ∈ lw_all := lw_g (lw_at lw_m12 213 rfl) rfl
theorem q3031 : (Jvm.Cond.methodLinkNest "LandMapModel$Roads" (34 : Nat) ({ cls := "LandMapModel$Ints", name := "<init>", desc := "()V" } : Jvm.MethodName) "LandMapModel") ∈ lw_tbl := lw_at lw_m12 214 rfl
theorem q3032 : (Jvm.Cond.fieldLink "LandMapModel$Roads" (56 : Nat) "LandMapModel$Roads" "laid" "LLandMapModel$Laid;") ∈ lw_all := lw_g (lw_at lw_m12 215 rfl) rfl
theorem q3033 : (Jvm.Cond.fieldLink "LandMapModel$Roads" (42 : Nat) "LandMapModel$Roads" "net" "LLandMapModel$Net;") ∈ lw_all := lw_g (lw_at lw_m12 216 rfl) rfl
theorem q3034 : (Jvm.Cond.fieldLink "LandMapModel$Roads" (9 : Nat) "LandMapModel$Roads" "isRoad" "[Z") ∈ lw_all := lw_g (lw_at lw_m12 217 rfl) rfl
theorem q3035 : (Jvm.Cond.fieldLink "LandMapModel$Roads" (15 : Nat) "LandMapModel$Roads" "costs" "[J") ∈ lw_all := lw_g (lw_at lw_m12 218 rfl) rfl
theorem q3036 : (Jvm.Cond.fieldLink "LandMapModel$Roads" (19 : Nat) "LandMapModel$Roads" "totals" "[J") ∈ lw_all := lw_g (lw_at lw_m12 219 rfl) rfl
theorem q3037 : (Jvm.Cond.fieldLink "LandMapModel$Roads" (22 : Nat) "LandMapModel$Roads" "roads" "[I") ∈ lw_all := lw_g (lw_at lw_m12 220 rfl) rfl
theorem q3038 : (Jvm.Cond.fieldLink "LandMapModel$Roads" (26 : Nat) "LandMapModel$Roads" "isDone" "[Z") ∈ lw_all := lw_g (lw_at lw_m12 221 rfl) rfl
theorem q3039 : (Jvm.Cond.fieldLink "LandMapModel$Roads" (29 : Nat) "LandMapModel$Roads" "heap" "[I") ∈ lw_all := lw_g (lw_at lw_m12 222 rfl) rfl
theorem q3040 : (Jvm.Cond.fieldLink "LandMapModel$Roads" (130 : Nat) "LandMapModel$Roads" "size" "I") ∈ lw_all := lw_g (lw_at lw_m12 223 rfl) rfl
theorem q3041 : (Jvm.Cond.fieldLink "LandMapModel$Roads" (35 : Nat) "LandMapModel$Roads" "bars" "LLandMapModel$Ints;") ∈ lw_all := lw_g (lw_at lw_m12 224 rfl) rfl
theorem q3042 : (Jvm.Cond.fieldLink "LandMapModel$Roads" (39 : Nat) "LandMapModel$Roads" "row" "LLandMapModel$Ints;") ∈ lw_all := lw_g (lw_at lw_m12 225 rfl) rfl
theorem q3043 : (Jvm.Cond.fieldLink "LandMapModel" (404 : Nat) "LandMapModel$Roads" "row" "LLandMapModel$Ints;") ∈ lw_all := lw_g (lw_at lw_m12 226 rfl) rfl
theorem q3044 : (Jvm.Cond.lays "LandMapModel$Roads" "LandMapModel$Roads" "laid" "LLandMapModel$Laid;") ∈ lw_all := lw_g (lw_at lw_m12 227 rfl) rfl
theorem q3045 : (Jvm.Cond.soleField "LandMapModel$Roads" "laid") ∈ lw_all := lw_g (lw_at lw_m12 228 rfl) rfl
theorem q3046 : (Jvm.Cond.lays "LandMapModel$Roads" "LandMapModel$Roads" "net" "LLandMapModel$Net;") ∈ lw_all := lw_g (lw_at lw_m12 229 rfl) rfl
theorem q3047 : (Jvm.Cond.soleField "LandMapModel$Roads" "net") ∈ lw_all := lw_g (lw_at lw_m12 230 rfl) rfl
theorem q3048 : (Jvm.Cond.lays "LandMapModel$Roads" "LandMapModel$Roads" "isRoad" "[Z") ∈ lw_all := lw_g (lw_at lw_m12 231 rfl) rfl
theorem q3049 : (Jvm.Cond.soleField "LandMapModel$Roads" "isRoad") ∈ lw_all := lw_g (lw_at lw_m12 232 rfl) rfl
theorem q3050 : (Jvm.Cond.lays "LandMapModel$Roads" "LandMapModel$Roads" "costs" "[J") ∈ lw_all := lw_g (lw_at lw_m12 233 rfl) rfl
theorem q3051 : (Jvm.Cond.soleField "LandMapModel$Roads" "costs") ∈ lw_all := lw_g (lw_at lw_m12 234 rfl) rfl
theorem q3052 : (Jvm.Cond.lays "LandMapModel$Roads" "LandMapModel$Roads" "totals" "[J") ∈ lw_all := lw_g (lw_at lw_m12 235 rfl) rfl
theorem q3053 : (Jvm.Cond.soleField "LandMapModel$Roads" "totals") ∈ lw_all := lw_g (lw_at lw_m12 236 rfl) rfl
theorem q3054 : (Jvm.Cond.lays "LandMapModel$Roads" "LandMapModel$Roads" "roads" "[I") ∈ lw_all := lw_g (lw_at lw_m12 237 rfl) rfl
theorem q3055 : (Jvm.Cond.soleField "LandMapModel$Roads" "roads") ∈ lw_all := lw_g (lw_at lw_m12 238 rfl) rfl
theorem q3056 : (Jvm.Cond.lays "LandMapModel$Roads" "LandMapModel$Roads" "isDone" "[Z") ∈ lw_all := lw_g (lw_at lw_m12 239 rfl) rfl
theorem q3057 : (Jvm.Cond.soleField "LandMapModel$Roads" "isDone") ∈ lw_all := lw_g (lw_at lw_m13 0 rfl) rfl
theorem q3058 : (Jvm.Cond.lays "LandMapModel$Roads" "LandMapModel$Roads" "heap" "[I") ∈ lw_all := lw_g (lw_at lw_m13 1 rfl) rfl
theorem q3059 : (Jvm.Cond.soleField "LandMapModel$Roads" "heap") ∈ lw_all := lw_g (lw_at lw_m13 2 rfl) rfl
theorem q3060 : (Jvm.Cond.lays "LandMapModel$Roads" "LandMapModel$Roads" "size" "I") ∈ lw_all := lw_g (lw_at lw_m13 3 rfl) rfl
theorem q3061 : (Jvm.Cond.soleField "LandMapModel$Roads" "size") ∈ lw_all := lw_g (lw_at lw_m13 4 rfl) rfl
theorem q3062 : (Jvm.Cond.laysFinal "LandMapModel$Roads" "LandMapModel$Roads" "bars" "LLandMapModel$Ints;") ∈ lw_all := lw_g (lw_at lw_m13 5 rfl) rfl
theorem q3063 : (Jvm.Cond.soleField "LandMapModel$Roads" "bars") ∈ lw_all := lw_g (lw_at lw_m13 6 rfl) rfl
theorem q3064 : (Jvm.Cond.laysFinal "LandMapModel$Roads" "LandMapModel$Roads" "row" "LLandMapModel$Ints;") ∈ lw_all := lw_g (lw_at lw_m13 7 rfl) rfl
theorem q3065 : (Jvm.Cond.soleField "LandMapModel$Roads" "row") ∈ lw_all := lw_g (lw_at lw_m13 8 rfl) rfl
theorem q3066 : (Jvm.Cond.superclass "LandMapModel$Roads" "java/lang/Object") ∈ lw_all := lw_g (lw_at lw_m13 9 rfl) rfl
theorem q3067 : (Jvm.Cond.classLink "LandMapModel" (116 : Nat) "LandMapModel$Ints") ∈ lw_all := lw_g (lw_at lw_m13 10 rfl) rfl
theorem q3068 : (Jvm.Cond.methodLinkNest "LandMapModel" (118 : Nat) ({ cls := "LandMapModel$Ints", name := "<init>", desc := "()V" } : Jvm.MethodName) "LandMapModel") ∈ lw_tbl := lw_at lw_m13 11 rfl
theorem q3069 : (Jvm.Cond.classLink "LandMapModel" (123 : Nat) "LandMapModel$Raster") ∈ lw_all := lw_g (lw_at lw_m13 12 rfl) rfl
theorem q3070 : (Jvm.Cond.arrayOver (Jvm.ClassFile.FieldType.object "LandMapModel$Raster")) ∈ lw_tbl := lw_at lw_m13 13 rfl
theorem q3071 : (Jvm.Cond.classLink "LandMapModel" (129 : Nat) "LandMapModel$Worker") ∈ lw_all := lw_g (lw_at lw_m13 14 rfl) rfl
theorem q3072 : (Jvm.Cond.instantiable "LandMapModel$Worker" (3 : Nat)) ∈ lw_all := lw_g (lw_at lw_m13 15 rfl) rfl
theorem q3073 : (Jvm.Cond.methodLinkNest "LandMapModel" (131 : Nat) ({ cls := "LandMapModel$Worker", name := "<init>", desc := "()V" } : Jvm.MethodName) "LandMapModel") ∈ lw_tbl := lw_at lw_m13 16 rfl
theorem q3074 : (Jvm.Cond.instanceMethod ({ cls := "LandMapModel$Worker", name := "<init>", desc := "()V" } : Jvm.MethodName)) ∈ lw_all := lw_g (lw_at lw_m13 17 rfl) rfl
theorem q3075 : (Jvm.Cond.code ({ cls := "LandMapModel$Worker", name := "<init>", desc := "()V" } : Jvm.MethodName) prog_44_method_1_code (1 : Nat) (Option.none : Option Jvm.ClassFile.FieldType)) ∈ lw_all := lw_g (lw_at lw_m13 18 rfl) rfl
theorem q3076 : (Jvm.Cond.methodLink "LandMapModel$Worker" (1 : Nat) ({ cls := "java/lang/Object", name := "<init>", desc := "()V" } : Jvm.MethodName)) ∈ lw_all := lw_g (lw_at lw_m13 19 rfl) rfl
theorem q3077 : (Jvm.Cond.classLink "LandMapModel$Worker" (7 : Nat) "java/util/ArrayList") ∈ lw_all := lw_g (lw_at lw_m13 20 rfl) rfl
theorem q3078 : (Jvm.Cond.methodLink "LandMapModel$Worker" (9 : Nat) ({ cls := "java/util/ArrayList", name := "<init>", desc := "()V" } : Jvm.MethodName)) ∈ lw_all := lw_g (lw_at lw_m13 21 rfl) rfl
theorem q3079 : (Jvm.Cond.fieldLink "LandMapModel$Worker" (10 : Nat) "LandMapModel$Worker" "pile" "Ljava/util/ArrayList;") ∈ lw_all := lw_g (lw_at lw_m13 22 rfl) rfl
theorem q3080 : (Jvm.Cond.fieldLink "LandMapModel$Worker" (16 : Nat) "LandMapModel$Worker" "top" "I") ∈ lw_all := lw_g (lw_at lw_m13 23 rfl) rfl
theorem q3081 : (Jvm.Cond.fieldLink "LandMapModel$Worker" (37 : Nat) "LandMapModel$Worker" "told" "LLandMapModel$Algebra;") ∈ lw_all := lw_g (lw_at lw_m13 24 rfl) rfl
theorem q3082 : (Jvm.Cond.laysFinal "LandMapModel$Worker" "LandMapModel$Worker" "pile" "Ljava/util/ArrayList;") ∈ lw_all := lw_g (lw_at lw_m13 25 rfl) rfl
theorem q3083 : (Jvm.Cond.soleField "LandMapModel$Worker" "pile") ∈ lw_all := lw_g (lw_at lw_m13 26 rfl) rfl
theorem q3084 : (Jvm.Cond.lays "LandMapModel$Worker" "LandMapModel$Worker" "top" "I") ∈ lw_all := lw_g (lw_at lw_m13 27 rfl) rfl
theorem q3085 : (Jvm.Cond.soleField "LandMapModel$Worker" "top") ∈ lw_all := lw_g (lw_at lw_m13 28 rfl) rfl
theorem q3086 : (Jvm.Cond.lays "LandMapModel$Worker" "LandMapModel$Worker" "told" "LLandMapModel$Algebra;") ∈ lw_all := lw_g (lw_at lw_m13 29 rfl) rfl
theorem q3087 : (Jvm.Cond.soleField "LandMapModel$Worker" "told") ∈ lw_all := lw_g (lw_at lw_m13 30 rfl) rfl
theorem q3088 : (Jvm.Cond.superclass "LandMapModel$Worker" "java/lang/Object") ∈ lw_all := lw_g (lw_at lw_m13 31 rfl) rfl
theorem q3089 : (Jvm.Cond.classLink "LandMapModel" (136 : Nat) "LandMapModel$Spread") ∈ lw_all := lw_g (lw_at lw_m13 32 rfl) rfl
theorem q3090 : (Jvm.Cond.instantiable "LandMapModel$Spread" (1 : Nat)) ∈ lw_all := lw_g (lw_at lw_m13 33 rfl) rfl
theorem q3091 : (Jvm.Cond.methodLinkNest "LandMapModel" (138 : Nat) ({ cls := "LandMapModel$Spread", name := "<init>", desc := "()V" } : Jvm.MethodName) "LandMapModel") ∈ lw_tbl := lw_at lw_m13 34 rfl
theorem q3092 : (Jvm.Cond.instanceMethod ({ cls := "LandMapModel$Spread", name := "<init>", desc := "()V" } : Jvm.MethodName)) ∈ lw_all := lw_g (lw_at lw_m13 35 rfl) rfl
theorem q3093 : (Jvm.Cond.code ({ cls := "LandMapModel$Spread", name := "<init>", desc := "()V" } : Jvm.MethodName) prog_39_method_1_code (1 : Nat) (Option.none : Option Jvm.ClassFile.FieldType)) ∈ lw_all := lw_g (lw_at lw_m13 36 rfl) rfl
theorem q3094 : (Jvm.Cond.methodLink "LandMapModel$Spread" (1 : Nat) ({ cls := "java/lang/Object", name := "<init>", desc := "()V" } : Jvm.MethodName)) ∈ lw_all := lw_g (lw_at lw_m13 37 rfl) rfl
theorem q3095 : (Jvm.Cond.fieldLink "LandMapModel$Spread" (7 : Nat) "LandMapModel$Spread" "isDone" "[Z") ∈ lw_all := lw_g (lw_at lw_m13 38 rfl) rfl
theorem q3096 : (Jvm.Cond.laysFinal "LandMapModel$Spread" "LandMapModel$Spread" "isDone" "[Z") ∈ lw_all := lw_g (lw_at lw_m13 39 rfl) rfl
theorem q3097 : (Jvm.Cond.soleField "LandMapModel$Spread" "isDone") ∈ lw_all := lw_g (lw_at lw_m13 40 rfl) rfl
theorem q3098 : (Jvm.Cond.superclass "LandMapModel$Spread" "java/lang/Object") ∈ lw_all := lw_g (lw_at lw_m13 41 rfl) rfl
theorem q3099 : (Jvm.Cond.classLink "LandMapModel" (143 : Nat) "LandMapModel$State") ∈ lw_all := lw_g (lw_at lw_m13 42 rfl) rfl
theorem q3100 : (Jvm.Cond.instantiable "LandMapModel$State" (2 : Nat)) ∈ lw_all := lw_g (lw_at lw_m13 43 rfl) rfl
theorem q3101 : (Jvm.Cond.classLink "LandMapModel" (145 : Nat) "[[LLandMapModel$Feature;") ∈ lw_all := lw_g (lw_at lw_m13 44 rfl) rfl
theorem q3102 : (Jvm.Cond.arrayOver (Jvm.ClassFile.FieldType.array (Jvm.ClassFile.FieldType.object "LandMapModel$Feature"))) ∈ lw_tbl := lw_at lw_m13 45 rfl
theorem q3103 : (Jvm.Cond.methodLink "LandMapModel" (147 : Nat) ({ cls := "LandMapModel$State", name := "<init>", desc := "([[LLandMapModel$Feature;[I)V" } : Jvm.MethodName)) ∈ lw_all := lw_g (lw_at lw_m13 46 rfl) rfl
theorem q3104 : (Jvm.Cond.instanceMethod ({ cls := "LandMapModel$State", name := "<init>", desc := "([[LLandMapModel$Feature;[I)V" } : Jvm.MethodName)) ∈ lw_all := lw_g (lw_at lw_m13 47 rfl) rfl
theorem q3105 : (Jvm.Cond.code ({ cls := "LandMapModel$State", name := "<init>", desc := "([[LLandMapModel$Feature;[I)V" } : Jvm.MethodName) prog_40_method_1_code (3 : Nat) (Option.none : Option Jvm.ClassFile.FieldType)) ∈ lw_all := lw_g (lw_at lw_m13 48 rfl) rfl
theorem q3106 : (Jvm.Cond.methodLink "LandMapModel$State" (3 : Nat) ({ cls := "java/lang/Object", name := "<init>", desc := "()V" } : Jvm.MethodName)) ∈ lw_all := lw_g (lw_at lw_m13 49 rfl) rfl
theorem q3107 : (Jvm.Cond.fieldLink "LandMapModel$State" (9 : Nat) "LandMapModel$State" "features" "[[LLandMapModel$Feature;") ∈ lw_all := lw_g (lw_at lw_m13 50 rfl) rfl
theorem q3108 : (Jvm.Cond.fieldLink "LandMapModel" (172 : Nat) "LandMapModel$State" "features" "[[LLandMapModel$Feature;") ∈ lw_all := lw_g (lw_at lw_m13 51 rfl) rfl
theorem q3109 : (Jvm.Cond.fieldLink "LandMapModel$State" (15 : Nat) "LandMapModel$State" "counts" "[I") ∈ lw_all := lw_g (lw_at lw_m13 52 rfl) rfl
theorem q3110 : (Jvm.Cond.fieldLink "LandMapModel" (169 : Nat) "LandMapModel$State" "counts" "[I") ∈ lw_all := lw_g (lw_at lw_m13 53 rfl) rfl
theorem q3111 : (Jvm.Cond.laysFinal "LandMapModel$State" "LandMapModel$State" "features" "[[LLandMapModel$Feature;") ∈ lw_all := lw_g (lw_at lw_m13 54 rfl) rfl
theorem q3112 : (Jvm.Cond.soleField "LandMapModel$State" "features") ∈ lw_all := lw_g (lw_at lw_m13 55 rfl) rfl
theorem q3113 : (Jvm.Cond.laysFinal "LandMapModel$State" "LandMapModel$State" "counts" "[I") ∈ lw_all := lw_g (lw_at lw_m13 56 rfl) rfl
theorem q3114 : (Jvm.Cond.soleField "LandMapModel$State" "counts") ∈ lw_all := lw_g (lw_at lw_m13 57 rfl) rfl
theorem q3115 : (Jvm.Cond.superclass "LandMapModel$State" "java/lang/Object") ∈ lw_all := lw_g (lw_at lw_m13 58 rfl) rfl
theorem q3116 : (Jvm.Cond.fieldLink "LandMapModel" (43 : Nat) "LandMapModel" "tray" "[B") ∈ lw_all := lw_g (lw_at lw_m13 59 rfl) rfl
theorem q3117 : (Jvm.Cond.fieldLink "LandMapModel" (154 : Nat) "LandMapModel" "trayed" "I") ∈ lw_all := lw_g (lw_at lw_m13 60 rfl) rfl
theorem q3118 : (Jvm.Cond.fieldLink "LandMapModel" (157 : Nat) "LandMapModel" "fed" "I") ∈ lw_all := lw_g (lw_at lw_m13 61 rfl) rfl
theorem q3119 : (Jvm.Cond.fieldLink "LandMapModel" (50 : Nat) "LandMapModel" "trouble" "LLandMapModel$Trouble;") ∈ lw_all := lw_g (lw_at lw_m13 62 rfl) rfl
theorem q3120 : (Jvm.Cond.fieldLink "LandMapModel" (54 : Nat) "LandMapModel" "placesRead" "[I") ∈ lw_all := lw_g (lw_at lw_m13 63 rfl) rfl
theorem q3121 : (Jvm.Cond.fieldLink "LandMapModel" (61 : Nat) "LandMapModel" "rules" "LLandMapModel$Rules;") ∈ lw_all := lw_g (lw_at lw_m13 64 rfl) rfl
theorem q3122 : (Jvm.Cond.fieldLink "LandMapModel" (65 : Nat) "LandMapModel" "place" "I") ∈ lw_all := lw_g (lw_at lw_m13 65 rfl) rfl
theorem q3123 : (Jvm.Cond.fieldLink "LandMapModel" (199 : Nat) "LandMapModel" "rule" "I") ∈ lw_all := lw_g (lw_at lw_m13 66 rfl) rfl
theorem q3124 : (Jvm.Cond.fieldLink "LandMapModel" (69 : Nat) "LandMapModel" "broken" "I") ∈ lw_all := lw_g (lw_at lw_m13 67 rfl) rfl
theorem q3125 : (Jvm.Cond.fieldLink "LandMapModel" (75 : Nat) "LandMapModel" "before" "Ljava/util/ArrayList;") ∈ lw_all := lw_g (lw_at lw_m13 68 rfl) rfl
theorem q3126 : (Jvm.Cond.fieldLink "LandMapModel" (150 : Nat) "LandMapModel" "now" "LLandMapModel$State;") ∈ lw_all := lw_g (lw_at lw_m13 69 rfl) rfl
theorem q3127 : (Jvm.Cond.fieldLink "LandMapModel" (226 : Nat) "LandMapModel" "made" "I") ∈ lw_all := lw_g (lw_at lw_m13 70 rfl) rfl
theorem q3128 : (Jvm.Cond.fieldLink "LandMapModel" (79 : Nat) "LandMapModel" "spots" "[I") ∈ lw_all := lw_g (lw_at lw_m13 71 rfl) rfl
theorem q3129 : (Jvm.Cond.fieldLink "LandMapModel" (268 : Nat) "LandMapModel" "spotCount" "I") ∈ lw_all := lw_g (lw_at lw_m13 72 rfl) rfl
theorem q3130 : (Jvm.Cond.fieldLink "LandMapModel" (85 : Nat) "LandMapModel" "laid" "LLandMapModel$Laid;") ∈ lw_all := lw_g (lw_at lw_m13 73 rfl) rfl
theorem q3131 : (Jvm.Cond.fieldLink "LandMapModel" (89 : Nat) "LandMapModel" "laying" "LLandMapModel$Laid;") ∈ lw_all := lw_g (lw_at lw_m13 74 rfl) rfl
theorem q3132 : (Jvm.Cond.fieldLink "LandMapModel" (302 : Nat) "LandMapModel" "isLaid" "Z") ∈ lw_all := lw_g (lw_at lw_m13 75 rfl) rfl
theorem q3133 : (Jvm.Cond.fieldLink "LandMapModel" (95 : Nat) "LandMapModel" "overlays" "LLandMapModel$Overlay;") ∈ lw_all := lw_g (lw_at lw_m13 76 rfl) rfl
theorem q3134 : (Jvm.Cond.fieldLink "LandMapModel" (102 : Nat) "LandMapModel" "relation" "LLandMapModel$Relation;") ∈ lw_all := lw_g (lw_at lw_m13 77 rfl) rfl
theorem q3135 : (Jvm.Cond.fieldLink "LandMapModel" (375 : Nat) "LandMapModel" "otherLayer" "I") ∈ lw_all := lw_g (lw_at lw_m13 78 rfl) rfl
theorem q3136 : (Jvm.Cond.fieldLink "LandMapModel" (378 : Nat) "LandMapModel" "otherFeature" "I") ∈ lw_all := lw_g (lw_at lw_m13 79 rfl) rfl
theorem q3137 : (Jvm.Cond.fieldLink "LandMapModel" (106 : Nat) "LandMapModel" "bars" "[I") ∈ lw_all := lw_g (lw_at lw_m13 80 rfl) rfl
theorem q3138 : (Jvm.Cond.fieldLink "LandMapModel" (395 : Nat) "LandMapModel" "barCount" "I") ∈ lw_all := lw_g (lw_at lw_m13 81 rfl) rfl
theorem q3139 : (Jvm.Cond.fieldLink "LandMapModel" (112 : Nat) "LandMapModel" "roads" "LLandMapModel$Roads;") ∈ lw_all := lw_g (lw_at lw_m13 82 rfl) rfl
theorem q3140 : (Jvm.Cond.fieldLink "LandMapModel" (119 : Nat) "LandMapModel" "way" "LLandMapModel$Ints;") ∈ lw_all := lw_g (lw_at lw_m13 83 rfl) rfl
theorem q3141 : (Jvm.Cond.fieldLink "LandMapModel" (412 : Nat) "LandMapModel" "cornerX" "I") ∈ lw_all := lw_g (lw_at lw_m13 84 rfl) rfl
theorem q3142 : (Jvm.Cond.fieldLink "LandMapModel" (415 : Nat) "LandMapModel" "cornerY" "I") ∈ lw_all := lw_g (lw_at lw_m13 85 rfl) rfl
theorem q3143 : (Jvm.Cond.fieldLink "LandMapModel" (125 : Nat) "LandMapModel" "rasters" "[LLandMapModel$Raster;") ∈ lw_all := lw_g (lw_at lw_m13 86 rfl) rfl
theorem q3144 : (Jvm.Cond.fieldLink "LandMapModel" (418 : Nat) "LandMapModel" "rasterCount" "I") ∈ lw_all := lw_g (lw_at lw_m13 87 rfl) rfl
theorem q3145 : (Jvm.Cond.fieldLink "LandMapModel" (132 : Nat) "LandMapModel" "worker" "LLandMapModel$Worker;") ∈ lw_all := lw_g (lw_at lw_m13 88 rfl) rfl
theorem q3146 : (Jvm.Cond.fieldLink "LandMapModel" (139 : Nat) "LandMapModel" "spreading" "LLandMapModel$Spread;") ∈ lw_all := lw_g (lw_at lw_m13 89 rfl) rfl
theorem q3147 : (Jvm.Cond.laysFinal "LandMapModel" "LandMapModel" "tray" "[B") ∈ lw_all := lw_g (lw_at lw_m13 90 rfl) rfl
theorem q3148 : (Jvm.Cond.soleField "LandMapModel" "tray") ∈ lw_all := lw_g (lw_at lw_m13 91 rfl) rfl
theorem q3149 : (Jvm.Cond.lays "LandMapModel" "LandMapModel" "trayed" "I") ∈ lw_all := lw_g (lw_at lw_m13 92 rfl) rfl
theorem q3150 : (Jvm.Cond.soleField "LandMapModel" "trayed") ∈ lw_all := lw_g (lw_at lw_m13 93 rfl) rfl
theorem q3151 : (Jvm.Cond.lays "LandMapModel" "LandMapModel" "fed" "I") ∈ lw_all := lw_g (lw_at lw_m13 94 rfl) rfl
theorem q3152 : (Jvm.Cond.soleField "LandMapModel" "fed") ∈ lw_all := lw_g (lw_at lw_m13 95 rfl) rfl
theorem q3153 : (Jvm.Cond.laysFinal "LandMapModel" "LandMapModel" "trouble" "LLandMapModel$Trouble;") ∈ lw_all := lw_g (lw_at lw_m13 96 rfl) rfl
theorem q3154 : (Jvm.Cond.soleField "LandMapModel" "trouble") ∈ lw_all := lw_g (lw_at lw_m13 97 rfl) rfl
theorem q3155 : (Jvm.Cond.laysFinal "LandMapModel" "LandMapModel" "placesRead" "[I") ∈ lw_all := lw_g (lw_at lw_m13 98 rfl) rfl
theorem q3156 : (Jvm.Cond.soleField "LandMapModel" "placesRead") ∈ lw_all := lw_g (lw_at lw_m13 99 rfl) rfl
theorem q3157 : (Jvm.Cond.laysFinal "LandMapModel" "LandMapModel" "rules" "LLandMapModel$Rules;") ∈ lw_all := lw_g (lw_at lw_m13 100 rfl) rfl
theorem q3158 : (Jvm.Cond.soleField "LandMapModel" "rules") ∈ lw_all := lw_g (lw_at lw_m13 101 rfl) rfl
theorem q3159 : (Jvm.Cond.lays "LandMapModel" "LandMapModel" "place" "I") ∈ lw_all := lw_g (lw_at lw_m13 102 rfl) rfl
theorem q3160 : (Jvm.Cond.soleField "LandMapModel" "place") ∈ lw_all := lw_g (lw_at lw_m13 103 rfl) rfl
theorem q3161 : (Jvm.Cond.lays "LandMapModel" "LandMapModel" "rule" "I") ∈ lw_all := lw_g (lw_at lw_m13 104 rfl) rfl
theorem q3162 : (Jvm.Cond.soleField "LandMapModel" "rule") ∈ lw_all := lw_g (lw_at lw_m13 105 rfl) rfl
theorem q3163 : (Jvm.Cond.lays "LandMapModel" "LandMapModel" "broken" "I") ∈ lw_all := lw_g (lw_at lw_m13 106 rfl) rfl
theorem q3164 : (Jvm.Cond.soleField "LandMapModel" "broken") ∈ lw_all := lw_g (lw_at lw_m13 107 rfl) rfl
theorem q3165 : (Jvm.Cond.laysFinal "LandMapModel" "LandMapModel" "before" "Ljava/util/ArrayList;") ∈ lw_all := lw_g (lw_at lw_m13 108 rfl) rfl
theorem q3166 : (Jvm.Cond.soleField "LandMapModel" "before") ∈ lw_all := lw_g (lw_at lw_m13 109 rfl) rfl
theorem q3167 : (Jvm.Cond.lays "LandMapModel" "LandMapModel" "now" "LLandMapModel$State;") ∈ lw_all := lw_g (lw_at lw_m13 110 rfl) rfl
theorem q3168 : (Jvm.Cond.soleField "LandMapModel" "now") ∈ lw_all := lw_g (lw_at lw_m13 111 rfl) rfl
theorem q3169 : (Jvm.Cond.lays "LandMapModel" "LandMapModel" "made" "I") ∈ lw_all := lw_g (lw_at lw_m13 112 rfl) rfl
theorem q3170 : (Jvm.Cond.soleField "LandMapModel" "made") ∈ lw_all := lw_g (lw_at lw_m13 113 rfl) rfl
theorem q3171 : (Jvm.Cond.laysFinal "LandMapModel" "LandMapModel" "spots" "[I") ∈ lw_all := lw_g (lw_at lw_m13 114 rfl) rfl
theorem q3172 : (Jvm.Cond.soleField "LandMapModel" "spots") ∈ lw_all := lw_g (lw_at lw_m13 115 rfl) rfl
theorem q3173 : (Jvm.Cond.lays "LandMapModel" "LandMapModel" "spotCount" "I") ∈ lw_all := lw_g (lw_at lw_m13 116 rfl) rfl
theorem q3174 : (Jvm.Cond.soleField "LandMapModel" "spotCount") ∈ lw_all := lw_g (lw_at lw_m13 117 rfl) rfl
theorem q3175 : (Jvm.Cond.lays "LandMapModel" "LandMapModel" "laid" "LLandMapModel$Laid;") ∈ lw_all := lw_g (lw_at lw_m13 118 rfl) rfl
theorem q3176 : (Jvm.Cond.soleField "LandMapModel" "laid") ∈ lw_all := lw_g (lw_at lw_m13 119 rfl) rfl
theorem q3177 : (Jvm.Cond.lays "LandMapModel" "LandMapModel" "laying" "LLandMapModel$Laid;") ∈ lw_all := lw_g (lw_at lw_m13 120 rfl) rfl
theorem q3178 : (Jvm.Cond.soleField "LandMapModel" "laying") ∈ lw_all := lw_g (lw_at lw_m13 121 rfl) rfl
theorem q3179 : (Jvm.Cond.lays "LandMapModel" "LandMapModel" "isLaid" "Z") ∈ lw_all := lw_g (lw_at lw_m13 122 rfl) rfl
theorem q3180 : (Jvm.Cond.soleField "LandMapModel" "isLaid") ∈ lw_all := lw_g (lw_at lw_m13 123 rfl) rfl
theorem q3181 : (Jvm.Cond.laysFinal "LandMapModel" "LandMapModel" "overlays" "LLandMapModel$Overlay;") ∈ lw_all := lw_g (lw_at lw_m13 124 rfl) rfl
theorem q3182 : (Jvm.Cond.soleField "LandMapModel" "overlays") ∈ lw_all := lw_g (lw_at lw_m13 125 rfl) rfl
theorem q3183 : (Jvm.Cond.laysFinal "LandMapModel" "LandMapModel" "relation" "LLandMapModel$Relation;") ∈ lw_all := lw_g (lw_at lw_m13 126 rfl) rfl
theorem q3184 : (Jvm.Cond.soleField "LandMapModel" "relation") ∈ lw_all := lw_g (lw_at lw_m13 127 rfl) rfl
theorem q3185 : (Jvm.Cond.lays "LandMapModel" "LandMapModel" "otherLayer" "I") ∈ lw_all := lw_g (lw_at lw_m13 128 rfl) rfl
theorem q3186 : (Jvm.Cond.soleField "LandMapModel" "otherLayer") ∈ lw_all := lw_g (lw_at lw_m13 129 rfl) rfl
theorem q3187 : (Jvm.Cond.lays "LandMapModel" "LandMapModel" "otherFeature" "I") ∈ lw_all := lw_g (lw_at lw_m13 130 rfl) rfl
theorem q3188 : (Jvm.Cond.soleField "LandMapModel" "otherFeature") ∈ lw_all := lw_g (lw_at lw_m13 131 rfl) rfl
theorem q3189 : (Jvm.Cond.laysFinal "LandMapModel" "LandMapModel" "bars" "[I") ∈ lw_all := lw_g (lw_at lw_m13 132 rfl) rfl
theorem q3190 : (Jvm.Cond.soleField "LandMapModel" "bars") ∈ lw_all := lw_g (lw_at lw_m13 133 rfl) rfl
theorem q3191 : (Jvm.Cond.lays "LandMapModel" "LandMapModel" "barCount" "I") ∈ lw_all := lw_g (lw_at lw_m13 134 rfl) rfl
theorem q3192 : (Jvm.Cond.soleField "LandMapModel" "barCount") ∈ lw_all := lw_g (lw_at lw_m13 135 rfl) rfl
theorem q3193 : (Jvm.Cond.laysFinal "LandMapModel" "LandMapModel" "roads" "LLandMapModel$Roads;") ∈ lw_all := lw_g (lw_at lw_m13 136 rfl) rfl
theorem q3194 : (Jvm.Cond.soleField "LandMapModel" "roads") ∈ lw_all := lw_g (lw_at lw_m13 137 rfl) rfl
theorem q3195 : (Jvm.Cond.laysFinal "LandMapModel" "LandMapModel" "way" "LLandMapModel$Ints;") ∈ lw_all := lw_g (lw_at lw_m13 138 rfl) rfl
theorem q3196 : (Jvm.Cond.soleField "LandMapModel" "way") ∈ lw_all := lw_g (lw_at lw_m13 139 rfl) rfl
theorem q3197 : (Jvm.Cond.lays "LandMapModel" "LandMapModel" "cornerX" "I") ∈ lw_all := lw_g (lw_at lw_m13 140 rfl) rfl
theorem q3198 : (Jvm.Cond.soleField "LandMapModel" "cornerX") ∈ lw_all := lw_g (lw_at lw_m13 141 rfl) rfl
theorem q3199 : (Jvm.Cond.lays "LandMapModel" "LandMapModel" "cornerY" "I") ∈ lw_all := lw_g (lw_at lw_m13 142 rfl) rfl
theorem q3200 : (Jvm.Cond.soleField "LandMapModel" "cornerY") ∈ lw_all := lw_g (lw_at lw_m13 143 rfl) rfl
theorem q3201 : (Jvm.Cond.laysFinal "LandMapModel" "LandMapModel" "rasters" "[LLandMapModel$Raster;") ∈ lw_all := lw_g (lw_at lw_m13 144 rfl) rfl
theorem q3202 : (Jvm.Cond.soleField "LandMapModel" "rasters") ∈ lw_all := lw_g (lw_at lw_m13 145 rfl) rfl
theorem q3203 : (Jvm.Cond.lays "LandMapModel" "LandMapModel" "rasterCount" "I") ∈ lw_all := lw_g (lw_at lw_m13 146 rfl) rfl
theorem q3204 : (Jvm.Cond.soleField "LandMapModel" "rasterCount") ∈ lw_all := lw_g (lw_at lw_m13 147 rfl) rfl
theorem q3205 : (Jvm.Cond.laysFinal "LandMapModel" "LandMapModel" "worker" "LLandMapModel$Worker;") ∈ lw_all := lw_g (lw_at lw_m13 148 rfl) rfl
theorem q3206 : (Jvm.Cond.soleField "LandMapModel" "worker") ∈ lw_all := lw_g (lw_at lw_m13 149 rfl) rfl
theorem q3207 : (Jvm.Cond.laysFinal "LandMapModel" "LandMapModel" "spreading" "LLandMapModel$Spread;") ∈ lw_all := lw_g (lw_at lw_m13 150 rfl) rfl
theorem q3208 : (Jvm.Cond.soleField "LandMapModel" "spreading") ∈ lw_all := lw_g (lw_at lw_m13 151 rfl) rfl
theorem q3209 : (Jvm.Cond.superclass "LandMapModel" "java/lang/Object") ∈ lw_all := lw_g (lw_at lw_m13 152 rfl) rfl
theorem q3210 : (Jvm.Cond.methodLink "LandMapLaw" (17 : Nat) ({ cls := "LandMapModel", name := "feed", desc := "(IIIII)I" } : Jvm.MethodName)) ∈ lw_all := lw_g (lw_at lw_m13 153 rfl) rfl
theorem q3211 : (Jvm.Cond.instanceMethod ({ cls := "LandMapModel", name := "feed", desc := "(IIIII)I" } : Jvm.MethodName)) ∈ lw_all := lw_g (lw_at lw_m13 154 rfl) rfl
theorem q3212 : (Jvm.Cond.selects "LandMapModel" ({ cls := "LandMapModel", name := "feed", desc := "(IIIII)I" } : Jvm.MethodName) ({ cls := "LandMapModel", name := "feed", desc := "(IIIII)I" } : Jvm.MethodName)) ∈ lw_all := lw_g (lw_at lw_m13 155 rfl) rfl
theorem q3213 : (Jvm.Cond.code ({ cls := "LandMapModel", name := "feed", desc := "(IIIII)I" } : Jvm.MethodName) prog_26_method_14_code (6 : Nat) (Option.some Jvm.ClassFile.FieldType.int)) ∈ lw_all := lw_g (lw_at lw_m13 156 rfl) rfl
theorem q3214 : (Jvm.Cond.constant "LandMapModel" (160 : Nat) (65536 : Int32)) ∈ lw_all := lw_g (lw_at lw_m13 157 rfl) rfl
theorem q3215 : (Jvm.Cond.methodLink "LandMapModel" (161 : Nat) ({ cls := "LandMapModel", name := "word", desc := "(I)V" } : Jvm.MethodName)) ∈ lw_all := lw_g (lw_at lw_m13 158 rfl) rfl
theorem q3216 : (Jvm.Cond.privateMethod ({ cls := "LandMapModel", name := "word", desc := "(I)V" } : Jvm.MethodName)) ∈ lw_tbl := lw_at lw_m13 159 rfl
theorem q3217 : (Jvm.Cond.instanceMethod ({ cls := "LandMapModel", name := "word", desc := "(I)V" } : Jvm.MethodName)) ∈ lw_all := lw_g (lw_at lw_m13 160 rfl) rfl
theorem q3218 : (Jvm.Cond.code ({ cls := "LandMapModel", name := "word", desc := "(I)V" } : Jvm.MethodName) prog_26_method_13_code (3 : Nat) (Option.none : Option Jvm.ClassFile.FieldType)) ∈ lw_all := lw_g (lw_at lw_m13 161 rfl) rfl
theorem q3219 : (Jvm.Cond.methodLink "LandMapLaw" (22 : Nat) ({ cls := "LandMapModel", name := "end", desc := "(I)Z" } : Jvm.MethodName)) ∈ lw_all := lw_g (lw_at lw_m13 162 rfl) rfl
theorem q3220 : (Jvm.Cond.instanceMethod ({ cls := "LandMapModel", name := "end", desc := "(I)Z" } : Jvm.MethodName)) ∈ lw_all := lw_g (lw_at lw_m13 163 rfl) rfl
theorem q3221 : (Jvm.Cond.selects "LandMapModel" ({ cls := "LandMapModel", name := "end", desc := "(I)Z" } : Jvm.MethodName) ({ cls := "LandMapModel", name := "end", desc := "(I)Z" } : Jvm.MethodName)) ∈ lw_all := lw_g (lw_at lw_m13 164 rfl) rfl
theorem q3222 : (Jvm.Cond.code ({ cls := "LandMapModel", name := "end", desc := "(I)Z" } : Jvm.MethodName) prog_26_method_15_code (2 : Nat) (Option.some Jvm.ClassFile.FieldType.boolean)) ∈ lw_all := lw_g (lw_at lw_m13 165 rfl) rfl
theorem q3223 : (Jvm.Cond.methodLink "LandMapLaw" (27 : Nat) ({ cls := "LandMapModel", name := "read", desc := "(I)I" } : Jvm.MethodName)) ∈ lw_all := lw_g (lw_at lw_m13 166 rfl) rfl
theorem q3224 : (Jvm.Cond.instanceMethod ({ cls := "LandMapModel", name := "read", desc := "(I)I" } : Jvm.MethodName)) ∈ lw_all := lw_g (lw_at lw_m13 167 rfl) rfl
theorem q3225 : (Jvm.Cond.selects "LandMapModel" ({ cls := "LandMapModel", name := "read", desc := "(I)I" } : Jvm.MethodName) ({ cls := "LandMapModel", name := "read", desc := "(I)I" } : Jvm.MethodName)) ∈ lw_all := lw_g (lw_at lw_m13 168 rfl) rfl
theorem q3226 : (Jvm.Cond.codeWith ({ cls := "LandMapModel", name := "read", desc := "(I)I" } : Jvm.MethodName) prog_26_method_20_code (8 : Nat) (Option.some Jvm.ClassFile.FieldType.int) [((56 : Nat), (60 : Nat), (63 : Nat), (210 : Nat))]) ∈ lw_all := lw_g (lw_at lw_m13 169 rfl) rfl
theorem q3227 : (Jvm.Cond.classLink "LandMapModel" (210 : Nat) "java/lang/IllegalStateException") ∈ lw_all := lw_g (lw_at lw_m13 170 rfl) rfl
theorem q3228 : (Jvm.Cond.methodLink "LandMapModel" (165 : Nat) ({ cls := "LandMapModel", name := "isLayer", desc := "(I)Z" } : Jvm.MethodName)) ∈ lw_all := lw_g (lw_at lw_m13 171 rfl) rfl
theorem q3229 : (Jvm.Cond.static ({ cls := "LandMapModel", name := "isLayer", desc := "(I)Z" } : Jvm.MethodName)) ∈ lw_all := lw_g (lw_at lw_m13 172 rfl) rfl
theorem q3230 : (Jvm.Cond.code ({ cls := "LandMapModel", name := "isLayer", desc := "(I)Z" } : Jvm.MethodName) prog_26_method_16_code (1 : Nat) (Option.some Jvm.ClassFile.FieldType.boolean)) ∈ lw_all := lw_g (lw_at lw_m13 173 rfl) rfl
theorem q3231 : (Jvm.Cond.classLink "LandMapModel" (202 : Nat) "LandMapModel$FeatureText") ∈ lw_all := lw_g (lw_at lw_m13 174 rfl) rfl
theorem q3232 : (Jvm.Cond.instantiable "LandMapModel$FeatureText" (7 : Nat)) ∈ lw_all := lw_g (lw_at lw_m13 175 rfl) rfl
theorem q3233 : (Jvm.Cond.methodLink "LandMapModel" (204 : Nat) ({ cls := "LandMapModel$FeatureText", name := "<init>", desc := "(LLandMapModel$Trouble;[BI[I)V" } : Jvm.MethodName)) ∈ lw_all := lw_g (lw_at lw_m13 176 rfl) rfl
theorem q3234 : (Jvm.Cond.instanceMethod ({ cls := "LandMapModel$FeatureText", name := "<init>", desc := "(LLandMapModel$Trouble;[BI[I)V" } : Jvm.MethodName)) ∈ lw_all := lw_g (lw_at lw_m13 177 rfl) rfl
theorem q3235 : (Jvm.Cond.code ({ cls := "LandMapModel$FeatureText", name := "<init>", desc := "(LLandMapModel$Trouble;[BI[I)V" } : Jvm.MethodName) prog_29_method_1_code (5 : Nat) (Option.none : Option Jvm.ClassFile.FieldType)) ∈ lw_all := lw_g (lw_at lw_m13 178 rfl) rfl
theorem q3236 : (Jvm.Cond.methodLink "LandMapModel$FeatureText" (3 : Nat) ({ cls := "LandMapModel$Text", name := "<init>", desc := "(LLandMapModel$Trouble;[BI)V" } : Jvm.MethodName)) ∈ lw_all := lw_g (lw_at lw_m13 179 rfl) rfl
theorem q3237 : (Jvm.Cond.instanceMethod ({ cls := "LandMapModel$Text", name := "<init>", desc := "(LLandMapModel$Trouble;[BI)V" } : Jvm.MethodName)) ∈ lw_all := lw_g (lw_at lw_m13 180 rfl) rfl
theorem q3238 : (Jvm.Cond.code ({ cls := "LandMapModel$Text", name := "<init>", desc := "(LLandMapModel$Trouble;[BI)V" } : Jvm.MethodName) prog_42_method_1_code (4 : Nat) (Option.none : Option Jvm.ClassFile.FieldType)) ∈ lw_all := lw_g (lw_at lw_m13 181 rfl) rfl
theorem q3239 : (Jvm.Cond.methodLink "LandMapModel$Text" (1 : Nat) ({ cls := "java/lang/Object", name := "<init>", desc := "()V" } : Jvm.MethodName)) ∈ lw_all := lw_g (lw_at lw_m13 182 rfl) rfl
theorem q3240 : (Jvm.Cond.classLink "LandMapModel$FeatureText" (9 : Nat) "java/util/ArrayList") ∈ lw_all := lw_g (lw_at lw_m13 183 rfl) rfl
theorem q3241 : (Jvm.Cond.methodLink "LandMapModel$FeatureText" (11 : Nat) ({ cls := "java/util/ArrayList", name := "<init>", desc := "()V" } : Jvm.MethodName)) ∈ lw_all := lw_g (lw_at lw_m13 184 rfl) rfl
theorem q3242 : (Jvm.Cond.fieldLink "LandMapModel$FeatureText" (14 : Nat) "LandMapModel$FeatureText" "features" "Ljava/util/ArrayList;") ∈ lw_all := lw_g (lw_at lw_m13 185 rfl) rfl
theorem q3243 : (Jvm.Cond.fieldLink "LandMapModel" (213 : Nat) "LandMapModel$FeatureText" "features" "Ljava/util/ArrayList;") ∈ lw_all := lw_g (lw_at lw_m13 186 rfl) rfl
theorem q3244 : (Jvm.Cond.fieldLink "LandMapModel$FeatureText" (20 : Nat) "LandMapModel$FeatureText" "places" "[I") ∈ lw_all := lw_g (lw_at lw_m13 187 rfl) rfl
theorem q3245 : (Jvm.Cond.fieldLink "LandMapModel$FeatureText" (52 : Nat) "LandMapModel$FeatureText" "count" "I") ∈ lw_all := lw_g (lw_at lw_m13 188 rfl) rfl
theorem q3246 : (Jvm.Cond.fieldLink "LandMapModel$Text" (7 : Nat) "LandMapModel$Text" "trouble" "LLandMapModel$Trouble;") ∈ lw_all := lw_g (lw_at lw_m13 189 rfl) rfl
theorem q3247 : (Jvm.Cond.fieldLink "LandMapModel$FeatureText" (43 : Nat) "LandMapModel$FeatureText" "trouble" "LLandMapModel$Trouble;") ∈ lw_all := lw_g (lw_at lw_m13 190 rfl) rfl
theorem q3248 : (Jvm.Cond.sameField "LandMapModel$FeatureText" "LandMapModel$Text" "trouble" "LLandMapModel$Trouble;") ∈ lw_all := lw_g (lw_at lw_m13 191 rfl) rfl
theorem q3249 : (Jvm.Cond.fieldLink "LandMapModel$Algebra" (46 : Nat) "LandMapModel$Algebra" "trouble" "LLandMapModel$Trouble;") ∈ lw_all := lw_g (lw_at lw_m13 192 rfl) rfl
theorem q3250 : (Jvm.Cond.sameField "LandMapModel$Algebra" "LandMapModel$Text" "trouble" "LLandMapModel$Trouble;") ∈ lw_all := lw_g (lw_at lw_m13 193 rfl) rfl
theorem q3251 : (Jvm.Cond.fieldLink "LandMapModel$Text" (13 : Nat) "LandMapModel$Text" "bytes" "[B") ∈ lw_all := lw_g (lw_at lw_m13 194 rfl) rfl
theorem q3252 : (Jvm.Cond.fieldLink "LandMapModel$Algebra" (106 : Nat) "LandMapModel$Algebra" "bytes" "[B") ∈ lw_all := lw_g (lw_at lw_m13 195 rfl) rfl
theorem q3253 : (Jvm.Cond.sameField "LandMapModel$Algebra" "LandMapModel$Text" "bytes" "[B") ∈ lw_all := lw_g (lw_at lw_m13 196 rfl) rfl
theorem q3254 : (Jvm.Cond.fieldLink "LandMapModel$Text" (17 : Nat) "LandMapModel$Text" "size" "I") ∈ lw_all := lw_g (lw_at lw_m13 197 rfl) rfl
theorem q3255 : (Jvm.Cond.fieldLink "LandMapModel$FeatureText" (34 : Nat) "LandMapModel$FeatureText" "size" "I") ∈ lw_all := lw_g (lw_at lw_m13 198 rfl) rfl
theorem q3256 : (Jvm.Cond.sameField "LandMapModel$FeatureText" "LandMapModel$Text" "size" "I") ∈ lw_all := lw_g (lw_at lw_m13 199 rfl) rfl
theorem q3257 : (Jvm.Cond.fieldLink "LandMapModel$Algebra" (39 : Nat) "LandMapModel$Algebra" "size" "I") ∈ lw_all := lw_g (lw_at lw_m13 200 rfl) rfl
theorem q3258 : (Jvm.Cond.sameField "LandMapModel$Algebra" "LandMapModel$Text" "size" "I") ∈ lw_all := lw_g (lw_at lw_m13 201 rfl) rfl
theorem q3259 : (Jvm.Cond.fieldLink "LandMapModel$Text" (21 : Nat) "LandMapModel$Text" "at" "I") ∈ lw_all := lw_g (lw_at lw_m13 202 rfl) rfl
theorem q3260 : (Jvm.Cond.fieldLink "LandMapModel$FeatureText" (30 : Nat) "LandMapModel$FeatureText" "at" "I") ∈ lw_all := lw_g (lw_at lw_m13 203 rfl) rfl
theorem q3261 : (Jvm.Cond.sameField "LandMapModel$FeatureText" "LandMapModel$Text" "at" "I") ∈ lw_all := lw_g (lw_at lw_m13 204 rfl) rfl
theorem q3262 : (Jvm.Cond.fieldLink "LandMapModel$Algebra" (36 : Nat) "LandMapModel$Algebra" "at" "I") ∈ lw_all := lw_g (lw_at lw_m13 205 rfl) rfl
theorem q3263 : (Jvm.Cond.sameField "LandMapModel$Algebra" "LandMapModel$Text" "at" "I") ∈ lw_all := lw_g (lw_at lw_m13 206 rfl) rfl
theorem q3264 : (Jvm.Cond.laysFinal "LandMapModel$FeatureText" "LandMapModel$FeatureText" "features" "Ljava/util/ArrayList;") ∈ lw_all := lw_g (lw_at lw_m13 207 rfl) rfl
theorem q3265 : (Jvm.Cond.soleField "LandMapModel$FeatureText" "features") ∈ lw_all := lw_g (lw_at lw_m13 208 rfl) rfl
theorem q3266 : (Jvm.Cond.laysFinal "LandMapModel$FeatureText" "LandMapModel$FeatureText" "places" "[I") ∈ lw_all := lw_g (lw_at lw_m13 209 rfl) rfl
theorem q3267 : (Jvm.Cond.soleField "LandMapModel$FeatureText" "places") ∈ lw_all := lw_g (lw_at lw_m13 210 rfl) rfl
theorem q3268 : (Jvm.Cond.lays "LandMapModel$FeatureText" "LandMapModel$FeatureText" "count" "I") ∈ lw_all := lw_g (lw_at lw_m13 211 rfl) rfl
theorem q3269 : (Jvm.Cond.soleField "LandMapModel$FeatureText" "count") ∈ lw_all := lw_g (lw_at lw_m13 212 rfl) rfl
theorem q3270 : (Jvm.Cond.laysFinal "LandMapModel$FeatureText" "LandMapModel$Text" "trouble" "LLandMapModel$Trouble;") ∈ lw_all := lw_g (lw_at lw_m13 213 rfl) rfl
theorem q3271 : (Jvm.Cond.soleField "LandMapModel$Text" "trouble") ∈ lw_all := lw_g (lw_at lw_m13 214 rfl) rfl
theorem q3272 : (Jvm.Cond.laysFinal "LandMapModel$FeatureText" "LandMapModel$Text" "bytes" "[B") ∈ lw_all := lw_g (lw_at lw_m13 215 rfl) rfl
theorem q3273 : (Jvm.Cond.soleField "LandMapModel$Text" "bytes") ∈ lw_all := lw_g (lw_at lw_m13 216 rfl) rfl
theorem q3274 : (Jvm.Cond.laysFinal "LandMapModel$FeatureText" "LandMapModel$Text" "size" "I") ∈ lw_all := lw_g (lw_at lw_m13 217 rfl) rfl
theorem q3275 : (Jvm.Cond.soleField "LandMapModel$Text" "size") ∈ lw_all := lw_g (lw_at lw_m13 218 rfl) rfl
theorem q3276 : (Jvm.Cond.lays "LandMapModel$FeatureText" "LandMapModel$Text" "at" "I") ∈ lw_all := lw_g (lw_at lw_m13 219 rfl) rfl
theorem q3277 : (Jvm.Cond.soleField "LandMapModel$Text" "at") ∈ lw_all := lw_g (lw_at lw_m13 220 rfl) rfl
theorem q3278 : (Jvm.Cond.superclass "LandMapModel$FeatureText" "LandMapModel$Text") ∈ lw_all := lw_g (lw_at lw_m13 221 rfl) rfl
theorem q3279 : (Jvm.Cond.methodLink "LandMapModel" (207 : Nat) ({ cls := "LandMapModel$FeatureText", name := "read", desc := "()V" } : Jvm.MethodName)) ∈ lw_all := lw_g (lw_at lw_m13 222 rfl) rfl
theorem q3280 : (Jvm.Cond.instanceMethod ({ cls := "LandMapModel$FeatureText", name := "read", desc := "()V" } : Jvm.MethodName)) ∈ lw_all := lw_g (lw_at lw_m13 223 rfl) rfl
theorem q3281 : (Jvm.Cond.selects "LandMapModel$FeatureText" ({ cls := "LandMapModel$FeatureText", name := "read", desc := "()V" } : Jvm.MethodName) ({ cls := "LandMapModel$FeatureText", name := "read", desc := "()V" } : Jvm.MethodName)) ∈ lw_all := lw_g (lw_at lw_m13 224 rfl) rfl
theorem q3282 : (Jvm.Cond.code ({ cls := "LandMapModel$FeatureText", name := "read", desc := "()V" } : Jvm.MethodName) prog_29_method_2_code (1 : Nat) (Option.none : Option Jvm.ClassFile.FieldType)) ∈ lw_all := lw_g (lw_at lw_m13 225 rfl) rfl
theorem q3283 : (Jvm.Cond.methodLink "LandMapModel$FeatureText" (24 : Nat) ({ cls := "LandMapModel$FeatureText", name := "blanks", desc := "()V" } : Jvm.MethodName)) ∈ lw_all := lw_g (lw_at lw_m13 226 rfl) rfl
theorem q3284 : (Jvm.Cond.sameMethod "LandMapModel$FeatureText" "LandMapModel$Text" "blanks" "()V") ∈ lw_all := lw_g (lw_at lw_m13 227 rfl) rfl
theorem q3285 : (Jvm.Cond.declares ({ cls := "LandMapModel$Text", name := "blanks", desc := "()V" } : Jvm.MethodName)) ∈ lw_tbl := lw_at lw_m13 228 rfl
theorem q3286 : (Jvm.Cond.selects "LandMapModel$FeatureText" ({ cls := "LandMapModel$FeatureText", name := "blanks", desc := "()V" } : Jvm.MethodName) ({ cls := "LandMapModel$Text", name := "blanks", desc := "()V" } : Jvm.MethodName)) ∈ lw_all := lw_g (lw_at lw_m13 229 rfl) rfl
theorem q3287 : (Jvm.Cond.instanceMethod ({ cls := "LandMapModel$Text", name := "blanks", desc := "()V" } : Jvm.MethodName)) ∈ lw_all := lw_g (lw_at lw_m13 230 rfl) rfl
theorem q3288 : (Jvm.Cond.code ({ cls := "LandMapModel$Text", name := "blanks", desc := "()V" } : Jvm.MethodName) prog_42_method_4_code (1 : Nat) (Option.none : Option Jvm.ClassFile.FieldType)) ∈ lw_all := lw_g (lw_at lw_m13 231 rfl) rfl
theorem q3289 : (Jvm.Cond.methodLink "LandMapModel$Text" (29 : Nat) ({ cls := "LandMapModel$Text", name := "look", desc := "()I" } : Jvm.MethodName)) ∈ lw_all := lw_g (lw_at lw_m13 232 rfl) rfl
theorem q3290 : (Jvm.Cond.instanceMethod ({ cls := "LandMapModel$Text", name := "look", desc := "()I" } : Jvm.MethodName)) ∈ lw_all := lw_g (lw_at lw_m13 233 rfl) rfl
theorem q3291 : (Jvm.Cond.sameMethod "LandMapModel$Text" "LandMapModel$Text" "look" "()I") ∈ lw_all := lw_g (lw_at lw_m13 234 rfl) rfl
theorem q3292 : (Jvm.Cond.selects "LandMapModel$Algebra" ({ cls := "LandMapModel$Text", name := "look", desc := "()I" } : Jvm.MethodName) ({ cls := "LandMapModel$Text", name := "look", desc := "()I" } : Jvm.MethodName)) ∈ lw_all := lw_g (lw_at lw_m13 235 rfl) rfl
theorem q3293 : (Jvm.Cond.selects "LandMapModel$FeatureText" ({ cls := "LandMapModel$Text", name := "look", desc := "()I" } : Jvm.MethodName) ({ cls := "LandMapModel$Text", name := "look", desc := "()I" } : Jvm.MethodName)) ∈ lw_all := lw_g (lw_at lw_m13 236 rfl) rfl
theorem q3294 : (Jvm.Cond.code ({ cls := "LandMapModel$Text", name := "look", desc := "()I" } : Jvm.MethodName) prog_42_method_2_code (1 : Nat) (Option.some Jvm.ClassFile.FieldType.int)) ∈ lw_all := lw_g (lw_at lw_m13 237 rfl) rfl
theorem q3295 : (Jvm.Cond.methodLink "LandMapModel$FeatureText" (27 : Nat) ({ cls := "LandMapModel$FeatureText", name := "feature", desc := "()V" } : Jvm.MethodName)) ∈ lw_all := lw_g (lw_at lw_m13 238 rfl) rfl
theorem q3296 : (Jvm.Cond.privateMethod ({ cls := "LandMapModel$FeatureText", name := "feature", desc := "()V" } : Jvm.MethodName)) ∈ lw_tbl := lw_at lw_m13 239 rfl
theorem q3297 : (Jvm.Cond.instanceMethod ({ cls := "LandMapModel$FeatureText", name := "feature", desc := "()V" } : Jvm.MethodName)) ∈ lw_all := lw_g (lw_at lw_m14 0 rfl) rfl
theorem q3298 : (Jvm.Cond.code ({ cls := "LandMapModel$FeatureText", name := "feature", desc := "()V" } : Jvm.MethodName) prog_29_method_5_code (8 : Nat) (Option.none : Option Jvm.ClassFile.FieldType)) ∈ lw_all := lw_g (lw_at lw_m14 1 rfl) rfl
theorem q3299 : (Jvm.Cond.methodLink "LandMapModel$FeatureText" (62 : Nat) ({ cls := "LandMapModel$FeatureText", name := "look", desc := "()I" } : Jvm.MethodName)) ∈ lw_all := lw_g (lw_at lw_m14 2 rfl) rfl
theorem q3300 : (Jvm.Cond.sameMethod "LandMapModel$FeatureText" "LandMapModel$Text" "look" "()I") ∈ lw_all := lw_g (lw_at lw_m14 3 rfl) rfl
theorem q3301 : (Jvm.Cond.declares ({ cls := "LandMapModel$Text", name := "look", desc := "()I" } : Jvm.MethodName)) ∈ lw_tbl := lw_at lw_m14 4 rfl
theorem q3302 : (Jvm.Cond.selects "LandMapModel$FeatureText" ({ cls := "LandMapModel$FeatureText", name := "look", desc := "()I" } : Jvm.MethodName) ({ cls := "LandMapModel$Text", name := "look", desc := "()I" } : Jvm.MethodName)) ∈ lw_all := lw_g (lw_at lw_m14 5 rfl) rfl
theorem q3303 : (Jvm.Cond.methodLink "LandMapModel$FeatureText" (65 : Nat) ({ cls := "LandMapModel$FeatureText", name := "isDigit", desc := "()Z" } : Jvm.MethodName)) ∈ lw_all := lw_g (lw_at lw_m14 6 rfl) rfl
theorem q3304 : (Jvm.Cond.sameMethod "LandMapModel$FeatureText" "LandMapModel$Text" "isDigit" "()Z") ∈ lw_all := lw_g (lw_at lw_m14 7 rfl) rfl
theorem q3305 : (Jvm.Cond.declares ({ cls := "LandMapModel$Text", name := "isDigit", desc := "()Z" } : Jvm.MethodName)) ∈ lw_tbl := lw_at lw_m14 8 rfl
theorem q3306 : (Jvm.Cond.selects "LandMapModel$FeatureText" ({ cls := "LandMapModel$FeatureText", name := "isDigit", desc := "()Z" } : Jvm.MethodName) ({ cls := "LandMapModel$Text", name := "isDigit", desc := "()Z" } : Jvm.MethodName)) ∈ lw_all := lw_g (lw_at lw_m14 9 rfl) rfl
theorem q3307 : (Jvm.Cond.instanceMethod ({ cls := "LandMapModel$Text", name := "isDigit", desc := "()Z" } : Jvm.MethodName)) ∈ lw_all := lw_g (lw_at lw_m14 10 rfl) rfl
theorem q3308 : (Jvm.Cond.code ({ cls := "LandMapModel$Text", name := "isDigit", desc := "()Z" } : Jvm.MethodName) prog_42_method_7_code (1 : Nat) (Option.some Jvm.ClassFile.FieldType.boolean)) ∈ lw_all := lw_g (lw_at lw_m14 11 rfl) rfl
theorem q3309 : (Jvm.Cond.methodLink "LandMapModel$FeatureText" (37 : Nat) ({ cls := "LandMapModel$FeatureText", name := "number", desc := "()I" } : Jvm.MethodName)) ∈ lw_all := lw_g (lw_at lw_m14 12 rfl) rfl
theorem q3310 : (Jvm.Cond.sameMethod "LandMapModel$FeatureText" "LandMapModel$Text" "number" "()I") ∈ lw_all := lw_g (lw_at lw_m14 13 rfl) rfl
theorem q3311 : (Jvm.Cond.declares ({ cls := "LandMapModel$Text", name := "number", desc := "()I" } : Jvm.MethodName)) ∈ lw_tbl := lw_at lw_m14 14 rfl
theorem q3312 : (Jvm.Cond.selects "LandMapModel$FeatureText" ({ cls := "LandMapModel$FeatureText", name := "number", desc := "()I" } : Jvm.MethodName) ({ cls := "LandMapModel$Text", name := "number", desc := "()I" } : Jvm.MethodName)) ∈ lw_all := lw_g (lw_at lw_m14 15 rfl) rfl
theorem q3313 : (Jvm.Cond.instanceMethod ({ cls := "LandMapModel$Text", name := "number", desc := "()I" } : Jvm.MethodName)) ∈ lw_all := lw_g (lw_at lw_m14 16 rfl) rfl
theorem q3314 : (Jvm.Cond.code ({ cls := "LandMapModel$Text", name := "number", desc := "()I" } : Jvm.MethodName) prog_42_method_9_code (3 : Nat) (Option.some Jvm.ClassFile.FieldType.int)) ∈ lw_all := lw_g (lw_at lw_m14 17 rfl) rfl
theorem q3315 : (Jvm.Cond.methodLink "LandMapModel$Text" (33 : Nat) ({ cls := "LandMapModel$Text", name := "blanks", desc := "()V" } : Jvm.MethodName)) ∈ lw_all := lw_g (lw_at lw_m14 18 rfl) rfl
theorem q3316 : (Jvm.Cond.methodLink "LandMapModel$Text" (48 : Nat) ({ cls := "LandMapModel$Text", name := "digits", desc := "()I" } : Jvm.MethodName)) ∈ lw_all := lw_g (lw_at lw_m14 19 rfl) rfl
theorem q3317 : (Jvm.Cond.instanceMethod ({ cls := "LandMapModel$Text", name := "digits", desc := "()I" } : Jvm.MethodName)) ∈ lw_all := lw_g (lw_at lw_m14 20 rfl) rfl
theorem q3318 : (Jvm.Cond.sameMethod "LandMapModel$Text" "LandMapModel$Text" "digits" "()I") ∈ lw_all := lw_g (lw_at lw_m14 21 rfl) rfl
theorem q3319 : (Jvm.Cond.selects "LandMapModel$Algebra" ({ cls := "LandMapModel$Text", name := "digits", desc := "()I" } : Jvm.MethodName) ({ cls := "LandMapModel$Text", name := "digits", desc := "()I" } : Jvm.MethodName)) ∈ lw_all := lw_g (lw_at lw_m14 22 rfl) rfl
theorem q3320 : (Jvm.Cond.selects "LandMapModel$FeatureText" ({ cls := "LandMapModel$Text", name := "digits", desc := "()I" } : Jvm.MethodName) ({ cls := "LandMapModel$Text", name := "digits", desc := "()I" } : Jvm.MethodName)) ∈ lw_all := lw_g (lw_at lw_m14 23 rfl) rfl
theorem q3321 : (Jvm.Cond.code ({ cls := "LandMapModel$Text", name := "digits", desc := "()I" } : Jvm.MethodName) prog_42_method_8_code (3 : Nat) (Option.some Jvm.ClassFile.FieldType.int)) ∈ lw_all := lw_g (lw_at lw_m14 24 rfl) rfl
theorem q3322 : (Jvm.Cond.methodLink "LandMapModel$Text" (44 : Nat) ({ cls := "LandMapModel$Text", name := "isDigit", desc := "()Z" } : Jvm.MethodName)) ∈ lw_all := lw_g (lw_at lw_m14 25 rfl) rfl
theorem q3323 : (Jvm.Cond.methodLink "LandMapModel$Text" (40 : Nat) ({ cls := "LandMapModel$Text", name := "wrong", desc := "()Ljava/lang/IllegalStateException;" } : Jvm.MethodName)) ∈ lw_all := lw_g (lw_at lw_m14 26 rfl) rfl
theorem q3324 : (Jvm.Cond.instanceMethod ({ cls := "LandMapModel$Text", name := "wrong", desc := "()Ljava/lang/IllegalStateException;" } : Jvm.MethodName)) ∈ lw_all := lw_g (lw_at lw_m14 27 rfl) rfl
theorem q3325 : (Jvm.Cond.sameMethod "LandMapModel$Text" "LandMapModel$Text" "wrong" "()Ljava/lang/IllegalStateException;") ∈ lw_all := lw_g (lw_at lw_m14 28 rfl) rfl
theorem q3326 : (Jvm.Cond.selects "LandMapModel$Algebra" ({ cls := "LandMapModel$Text", name := "wrong", desc := "()Ljava/lang/IllegalStateException;" } : Jvm.MethodName) ({ cls := "LandMapModel$Text", name := "wrong", desc := "()Ljava/lang/IllegalStateException;" } : Jvm.MethodName)) ∈ lw_all := lw_g (lw_at lw_m14 29 rfl) rfl
theorem q3327 : (Jvm.Cond.selects "LandMapModel$FeatureText" ({ cls := "LandMapModel$Text", name := "wrong", desc := "()Ljava/lang/IllegalStateException;" } : Jvm.MethodName) ({ cls := "LandMapModel$Text", name := "wrong", desc := "()Ljava/lang/IllegalStateException;" } : Jvm.MethodName)) ∈ lw_all := lw_g (lw_at lw_m14 30 rfl) rfl
theorem q3328 : (Jvm.Cond.code ({ cls := "LandMapModel$Text", name := "wrong", desc := "()Ljava/lang/IllegalStateException;" } : Jvm.MethodName) prog_42_method_3_code (1 : Nat) (Option.some (Jvm.ClassFile.FieldType.object "java/lang/IllegalStateException"))) ∈ lw_all := lw_g (lw_at lw_m14 31 rfl) rfl
theorem q3329 : (Jvm.Cond.methodLink "LandMapModel$Text" (24 : Nat) ({ cls := "LandMapModel$Trouble", name := "at", desc := "(I)Ljava/lang/IllegalStateException;" } : Jvm.MethodName)) ∈ lw_all := lw_g (lw_at lw_m14 32 rfl) rfl
theorem q3330 : (Jvm.Cond.instanceMethod ({ cls := "LandMapModel$Trouble", name := "at", desc := "(I)Ljava/lang/IllegalStateException;" } : Jvm.MethodName)) ∈ lw_all := lw_g (lw_at lw_m14 33 rfl) rfl
theorem q3331 : (Jvm.Cond.selects "LandMapModel$Trouble" ({ cls := "LandMapModel$Trouble", name := "at", desc := "(I)Ljava/lang/IllegalStateException;" } : Jvm.MethodName) ({ cls := "LandMapModel$Trouble", name := "at", desc := "(I)Ljava/lang/IllegalStateException;" } : Jvm.MethodName)) ∈ lw_all := lw_g (lw_at lw_m14 34 rfl) rfl
theorem q3332 : (Jvm.Cond.code ({ cls := "LandMapModel$Trouble", name := "at", desc := "(I)Ljava/lang/IllegalStateException;" } : Jvm.MethodName) prog_43_method_2_code (2 : Nat) (Option.some (Jvm.ClassFile.FieldType.object "java/lang/IllegalStateException"))) ∈ lw_all := lw_g (lw_at lw_m14 35 rfl) rfl
theorem q3333 : (Jvm.Cond.classLink "LandMapModel$Trouble" (13 : Nat) "java/lang/IllegalStateException") ∈ lw_all := lw_g (lw_at lw_m14 36 rfl) rfl
theorem q3334 : (Jvm.Cond.methodLink "LandMapModel$Trouble" (15 : Nat) ({ cls := "java/lang/IllegalStateException", name := "<init>", desc := "()V" } : Jvm.MethodName)) ∈ lw_all := lw_g (lw_at lw_m14 37 rfl) rfl
theorem q3335 : (Jvm.Cond.methodLink "LandMapModel$FeatureText" (69 : Nat) ({ cls := "LandMapModel$FeatureText", name := "must", desc := "(I)V" } : Jvm.MethodName)) ∈ lw_all := lw_g (lw_at lw_m14 38 rfl) rfl
theorem q3336 : (Jvm.Cond.sameMethod "LandMapModel$FeatureText" "LandMapModel$Text" "must" "(I)V") ∈ lw_all := lw_g (lw_at lw_m14 39 rfl) rfl
theorem q3337 : (Jvm.Cond.declares ({ cls := "LandMapModel$Text", name := "must", desc := "(I)V" } : Jvm.MethodName)) ∈ lw_tbl := lw_at lw_m14 40 rfl
theorem q3338 : (Jvm.Cond.selects "LandMapModel$FeatureText" ({ cls := "LandMapModel$FeatureText", name := "must", desc := "(I)V" } : Jvm.MethodName) ({ cls := "LandMapModel$Text", name := "must", desc := "(I)V" } : Jvm.MethodName)) ∈ lw_all := lw_g (lw_at lw_m14 41 rfl) rfl
theorem q3339 : (Jvm.Cond.instanceMethod ({ cls := "LandMapModel$Text", name := "must", desc := "(I)V" } : Jvm.MethodName)) ∈ lw_all := lw_g (lw_at lw_m14 42 rfl) rfl
theorem q3340 : (Jvm.Cond.code ({ cls := "LandMapModel$Text", name := "must", desc := "(I)V" } : Jvm.MethodName) prog_42_method_6_code (2 : Nat) (Option.none : Option Jvm.ClassFile.FieldType)) ∈ lw_all := lw_g (lw_at lw_m14 43 rfl) rfl
theorem q3341 : (Jvm.Cond.methodLink "LandMapModel$Text" (36 : Nat) ({ cls := "LandMapModel$Text", name := "goes", desc := "(I)Z" } : Jvm.MethodName)) ∈ lw_all := lw_g (lw_at lw_m14 44 rfl) rfl
theorem q3342 : (Jvm.Cond.instanceMethod ({ cls := "LandMapModel$Text", name := "goes", desc := "(I)Z" } : Jvm.MethodName)) ∈ lw_all := lw_g (lw_at lw_m14 45 rfl) rfl
theorem q3343 : (Jvm.Cond.sameMethod "LandMapModel$Text" "LandMapModel$Text" "goes" "(I)Z") ∈ lw_all := lw_g (lw_at lw_m14 46 rfl) rfl
theorem q3344 : (Jvm.Cond.selects "LandMapModel$Algebra" ({ cls := "LandMapModel$Text", name := "goes", desc := "(I)Z" } : Jvm.MethodName) ({ cls := "LandMapModel$Text", name := "goes", desc := "(I)Z" } : Jvm.MethodName)) ∈ lw_all := lw_g (lw_at lw_m14 47 rfl) rfl
theorem q3345 : (Jvm.Cond.selects "LandMapModel$FeatureText" ({ cls := "LandMapModel$Text", name := "goes", desc := "(I)Z" } : Jvm.MethodName) ({ cls := "LandMapModel$Text", name := "goes", desc := "(I)Z" } : Jvm.MethodName)) ∈ lw_all := lw_g (lw_at lw_m14 48 rfl) rfl
theorem q3346 : (Jvm.Cond.code ({ cls := "LandMapModel$Text", name := "goes", desc := "(I)Z" } : Jvm.MethodName) prog_42_method_5_code (2 : Nat) (Option.some Jvm.ClassFile.FieldType.boolean)) ∈ lw_all := lw_g (lw_at lw_m14 49 rfl) rfl
theorem q3347 : (Jvm.Cond.methodLink "LandMapModel$FeatureText" (55 : Nat) ({ cls := "LandMapModel$FeatureText", name := "wrong", desc := "()Ljava/lang/IllegalStateException;" } : Jvm.MethodName)) ∈ lw_all := lw_g (lw_at lw_m14 50 rfl) rfl
theorem q3348 : (Jvm.Cond.sameMethod "LandMapModel$FeatureText" "LandMapModel$Text" "wrong" "()Ljava/lang/IllegalStateException;") ∈ lw_all := lw_g (lw_at lw_m14 51 rfl) rfl
theorem q3349 : (Jvm.Cond.declares ({ cls := "LandMapModel$Text", name := "wrong", desc := "()Ljava/lang/IllegalStateException;" } : Jvm.MethodName)) ∈ lw_tbl := lw_at lw_m14 52 rfl
theorem q3350 : (Jvm.Cond.selects "LandMapModel$FeatureText" ({ cls := "LandMapModel$FeatureText", name := "wrong", desc := "()Ljava/lang/IllegalStateException;" } : Jvm.MethodName) ({ cls := "LandMapModel$Text", name := "wrong", desc := "()Ljava/lang/IllegalStateException;" } : Jvm.MethodName)) ∈ lw_all := lw_g (lw_at lw_m14 53 rfl) rfl
theorem q3351 : (Jvm.Cond.methodLink "LandMapModel$FeatureText" (73 : Nat) ({ cls := "LandMapModel$FeatureText", name := "onePlace", desc := "()V" } : Jvm.MethodName)) ∈ lw_all := lw_g (lw_at lw_m14 54 rfl) rfl
theorem q3352 : (Jvm.Cond.privateMethod ({ cls := "LandMapModel$FeatureText", name := "onePlace", desc := "()V" } : Jvm.MethodName)) ∈ lw_tbl := lw_at lw_m14 55 rfl
theorem q3353 : (Jvm.Cond.instanceMethod ({ cls := "LandMapModel$FeatureText", name := "onePlace", desc := "()V" } : Jvm.MethodName)) ∈ lw_all := lw_g (lw_at lw_m14 56 rfl) rfl
theorem q3354 : (Jvm.Cond.code ({ cls := "LandMapModel$FeatureText", name := "onePlace", desc := "()V" } : Jvm.MethodName) prog_29_method_4_code (1 : Nat) (Option.none : Option Jvm.ClassFile.FieldType)) ∈ lw_all := lw_g (lw_at lw_m14 57 rfl) rfl
theorem q3355 : (Jvm.Cond.methodLink "LandMapModel$FeatureText" (59 : Nat) ({ cls := "LandMapModel$FeatureText", name := "axis", desc := "()I" } : Jvm.MethodName)) ∈ lw_all := lw_g (lw_at lw_m14 58 rfl) rfl
theorem q3356 : (Jvm.Cond.privateMethod ({ cls := "LandMapModel$FeatureText", name := "axis", desc := "()I" } : Jvm.MethodName)) ∈ lw_tbl := lw_at lw_m14 59 rfl
theorem q3357 : (Jvm.Cond.instanceMethod ({ cls := "LandMapModel$FeatureText", name := "axis", desc := "()I" } : Jvm.MethodName)) ∈ lw_all := lw_g (lw_at lw_m14 60 rfl) rfl
theorem q3358 : (Jvm.Cond.code ({ cls := "LandMapModel$FeatureText", name := "axis", desc := "()I" } : Jvm.MethodName) prog_29_method_3_code (3 : Nat) (Option.some Jvm.ClassFile.FieldType.int)) ∈ lw_all := lw_g (lw_at lw_m14 61 rfl) rfl
theorem q3359 : (Jvm.Cond.constant "LandMapModel$FeatureText" (41 : Nat) (500000 : Int32)) ∈ lw_all := lw_g (lw_at lw_m14 62 rfl) rfl
theorem q3360 : (Jvm.Cond.constant "LandMapModel$FeatureText" (42 : Nat) (-500000 : Int32)) ∈ lw_all := lw_g (lw_at lw_m14 63 rfl) rfl
theorem q3361 : (Jvm.Cond.methodLink "LandMapModel$FeatureText" (47 : Nat) ({ cls := "LandMapModel$Trouble", name := "at", desc := "(I)Ljava/lang/IllegalStateException;" } : Jvm.MethodName)) ∈ lw_all := lw_g (lw_at lw_m14 64 rfl) rfl
theorem q3362 : (Jvm.Cond.methodLink "LandMapModel$FeatureText" (76 : Nat) ({ cls := "LandMapModel$FeatureText", name := "goes", desc := "(I)Z" } : Jvm.MethodName)) ∈ lw_all := lw_g (lw_at lw_m14 65 rfl) rfl
theorem q3363 : (Jvm.Cond.sameMethod "LandMapModel$FeatureText" "LandMapModel$Text" "goes" "(I)Z") ∈ lw_all := lw_g (lw_at lw_m14 66 rfl) rfl
theorem q3364 : (Jvm.Cond.declares ({ cls := "LandMapModel$Text", name := "goes", desc := "(I)Z" } : Jvm.MethodName)) ∈ lw_tbl := lw_at lw_m14 67 rfl
theorem q3365 : (Jvm.Cond.selects "LandMapModel$FeatureText" ({ cls := "LandMapModel$FeatureText", name := "goes", desc := "(I)Z" } : Jvm.MethodName) ({ cls := "LandMapModel$Text", name := "goes", desc := "(I)Z" } : Jvm.MethodName)) ∈ lw_all := lw_g (lw_at lw_m14 68 rfl) rfl
theorem q3366 : (Jvm.Cond.methodLink "LandMapModel$FeatureText" (80 : Nat) ({ cls := "java/lang/Integer", name := "valueOf", desc := "(I)Ljava/lang/Integer;" } : Jvm.MethodName)) ∈ lw_all := lw_g (lw_at lw_m14 69 rfl) rfl
theorem q3367 : (Jvm.Cond.static ({ cls := "java/lang/Integer", name := "valueOf", desc := "(I)Ljava/lang/Integer;" } : Jvm.MethodName)) ∈ lw_all := lw_g (lw_at lw_m14 70 rfl) rfl
theorem q3368 : (Jvm.Cond.code ({ cls := "java/lang/Integer", name := "valueOf", desc := "(I)Ljava/lang/Integer;" } : Jvm.MethodName) prog_53_method_22_code (1 : Nat) (Option.some (Jvm.ClassFile.FieldType.object "java/lang/Integer"))) ∈ lw_all := lw_g (lw_at lw_m14 71 rfl) rfl
theorem q3369 : (Jvm.Cond.fieldLink "java/lang/Integer" (191 : Nat) "java/lang/Integer$IntegerCache" "high" "I") ∈ lw_all := lw_g (lw_at lw_m14 72 rfl) rfl
theorem q3370 : (Jvm.Cond.laysStatic "java/lang/Integer$IntegerCache" "high" "I") ∈ lw_tbl := lw_at lw_m14 73 rfl
theorem q3371 : (Jvm.Cond.fieldLink "java/lang/Integer" (195 : Nat) "java/lang/Integer$IntegerCache" "cache" "[Ljava/lang/Integer;") ∈ lw_all := lw_g (lw_at lw_m14 74 rfl) rfl
theorem q3372 : (Jvm.Cond.laysStatic "java/lang/Integer$IntegerCache" "cache" "[Ljava/lang/Integer;") ∈ lw_tbl := lw_at lw_m14 75 rfl
theorem q3373 : (Jvm.Cond.classLink "java/lang/Integer" (1 : Nat) "java/lang/Integer") ∈ lw_all := lw_g (lw_at lw_m14 76 rfl) rfl
theorem q3374 : (Jvm.Cond.instantiable "java/lang/Integer" (1 : Nat)) ∈ lw_all := lw_g (lw_at lw_m14 77 rfl) rfl
theorem q3375 : (Jvm.Cond.methodLink "java/lang/Integer" (199 : Nat) ({ cls := "java/lang/Integer", name := "<init>", desc := "(I)V" } : Jvm.MethodName)) ∈ lw_all := lw_g (lw_at lw_m14 78 rfl) rfl
theorem q3376 : (Jvm.Cond.instanceMethod ({ cls := "java/lang/Integer", name := "<init>", desc := "(I)V" } : Jvm.MethodName)) ∈ lw_all := lw_g (lw_at lw_m14 79 rfl) rfl
theorem q3377 : (Jvm.Cond.code ({ cls := "java/lang/Integer", name := "<init>", desc := "(I)V" } : Jvm.MethodName) prog_53_method_23_code (2 : Nat) (Option.none : Option Jvm.ClassFile.FieldType)) ∈ lw_all := lw_g (lw_at lw_m14 80 rfl) rfl
theorem q3378 : (Jvm.Cond.methodLink "java/lang/Integer" (202 : Nat) ({ cls := "java/lang/Number", name := "<init>", desc := "()V" } : Jvm.MethodName)) ∈ lw_all := lw_g (lw_at lw_m14 81 rfl) rfl
theorem q3379 : (Jvm.Cond.instanceMethod ({ cls := "java/lang/Number", name := "<init>", desc := "()V" } : Jvm.MethodName)) ∈ lw_all := lw_g (lw_at lw_m14 82 rfl) rfl
theorem q3380 : (Jvm.Cond.code ({ cls := "java/lang/Number", name := "<init>", desc := "()V" } : Jvm.MethodName) prog_57_method_1_code (1 : Nat) (Option.none : Option Jvm.ClassFile.FieldType)) ∈ lw_all := lw_g (lw_at lw_m14 83 rfl) rfl
theorem q3381 : (Jvm.Cond.methodLink "java/lang/Number" (1 : Nat) ({ cls := "java/lang/Object", name := "<init>", desc := "()V" } : Jvm.MethodName)) ∈ lw_all := lw_g (lw_at lw_m14 84 rfl) rfl
theorem q3382 : (Jvm.Cond.fieldLink "java/lang/Integer" (205 : Nat) "java/lang/Integer" "value" "I") ∈ lw_all := lw_g (lw_at lw_m14 85 rfl) rfl
theorem q3383 : (Jvm.Cond.laysFinal "java/lang/Integer" "java/lang/Integer" "value" "I") ∈ lw_all := lw_g (lw_at lw_m14 86 rfl) rfl
theorem q3384 : (Jvm.Cond.soleField "java/lang/Integer" "value") ∈ lw_all := lw_g (lw_at lw_m14 87 rfl) rfl
theorem q3385 : (Jvm.Cond.superclass "java/lang/Integer" "java/lang/Number") ∈ lw_all := lw_g (lw_at lw_m14 88 rfl) rfl
theorem q3386 : (Jvm.Cond.methodLink "LandMapModel$FeatureText" (86 : Nat) ({ cls := "java/util/ArrayList", name := "add", desc := "(Ljava/lang/Object;)Z" } : Jvm.MethodName)) ∈ lw_all := lw_g (lw_at lw_m14 89 rfl) rfl
theorem q3387 : (Jvm.Cond.methodLink "LandMapModel$FeatureText" (90 : Nat) ({ cls := "java/util/ArrayList", name := "size", desc := "()I" } : Jvm.MethodName)) ∈ lw_all := lw_g (lw_at lw_m14 90 rfl) rfl
theorem q3388 : (Jvm.Cond.classLink "LandMapModel$FeatureText" (92 : Nat) "[I") ∈ lw_all := lw_g (lw_at lw_m14 91 rfl) rfl
theorem q3389 : (Jvm.Cond.methodLink "LandMapModel$FeatureText" (93 : Nat) ({ cls := "java/util/ArrayList", name := "get", desc := "(I)Ljava/lang/Object;" } : Jvm.MethodName)) ∈ lw_all := lw_g (lw_at lw_m14 92 rfl) rfl
theorem q3390 : (Jvm.Cond.classLink "LandMapModel$FeatureText" (81 : Nat) "java/lang/Integer") ∈ lw_all := lw_g (lw_at lw_m14 93 rfl) rfl
theorem q3391 : (Jvm.Cond.methodLink "LandMapModel$FeatureText" (97 : Nat) ({ cls := "java/lang/Integer", name := "intValue", desc := "()I" } : Jvm.MethodName)) ∈ lw_all := lw_g (lw_at lw_m14 94 rfl) rfl
theorem q3392 : (Jvm.Cond.instanceMethod ({ cls := "java/lang/Integer", name := "intValue", desc := "()I" } : Jvm.MethodName)) ∈ lw_all := lw_g (lw_at lw_m14 95 rfl) rfl
theorem q3393 : (Jvm.Cond.selects "java/lang/Integer" ({ cls := "java/lang/Integer", name := "intValue", desc := "()I" } : Jvm.MethodName) ({ cls := "java/lang/Integer", name := "intValue", desc := "()I" } : Jvm.MethodName)) ∈ lw_all := lw_g (lw_at lw_m14 96 rfl) rfl
theorem q3394 : (Jvm.Cond.code ({ cls := "java/lang/Integer", name := "intValue", desc := "()I" } : Jvm.MethodName) prog_53_method_27_code (1 : Nat) (Option.some Jvm.ClassFile.FieldType.int)) ∈ lw_all := lw_g (lw_at lw_m14 97 rfl) rfl
theorem q3395 : (Jvm.Cond.classLink "LandMapModel$FeatureText" (100 : Nat) "LandMapModel$Feature") ∈ lw_all := lw_g (lw_at lw_m14 98 rfl) rfl
theorem q3396 : (Jvm.Cond.instantiable "LandMapModel$Feature" (3 : Nat)) ∈ lw_all := lw_g (lw_at lw_m14 99 rfl) rfl
theorem q3397 : (Jvm.Cond.methodLink "LandMapModel$FeatureText" (102 : Nat) ({ cls := "LandMapModel$Feature", name := "<init>", desc := "(II[[I)V" } : Jvm.MethodName)) ∈ lw_all := lw_g (lw_at lw_m14 100 rfl) rfl
theorem q3398 : (Jvm.Cond.instanceMethod ({ cls := "LandMapModel$Feature", name := "<init>", desc := "(II[[I)V" } : Jvm.MethodName)) ∈ lw_all := lw_g (lw_at lw_m14 101 rfl) rfl
theorem q3399 : (Jvm.Cond.code ({ cls := "LandMapModel$Feature", name := "<init>", desc := "(II[[I)V" } : Jvm.MethodName) prog_28_method_1_code (4 : Nat) (Option.none : Option Jvm.ClassFile.FieldType)) ∈ lw_all := lw_g (lw_at lw_m14 102 rfl) rfl
theorem q3400 : (Jvm.Cond.methodLink "LandMapModel$Feature" (1 : Nat) ({ cls := "java/lang/Object", name := "<init>", desc := "()V" } : Jvm.MethodName)) ∈ lw_all := lw_g (lw_at lw_m14 103 rfl) rfl
theorem q3401 : (Jvm.Cond.fieldLink "LandMapModel$Feature" (7 : Nat) "LandMapModel$Feature" "kind" "I") ∈ lw_all := lw_g (lw_at lw_m14 104 rfl) rfl
theorem q3402 : (Jvm.Cond.fieldLink "LandMapModel$Rules" (53 : Nat) "LandMapModel$Feature" "kind" "I") ∈ lw_all := lw_g (lw_at lw_m14 105 rfl) rfl
theorem q3403 : (Jvm.Cond.fieldLink "LandMapModel$Roads" (84 : Nat) "LandMapModel$Feature" "kind" "I") ∈ lw_all := lw_g (lw_at lw_m14 106 rfl) rfl
theorem q3404 : (Jvm.Cond.fieldLink "LandMapModel$Relation" (96 : Nat) "LandMapModel$Feature" "kind" "I") ∈ lw_all := lw_g (lw_at lw_m14 107 rfl) rfl
theorem q3405 : (Jvm.Cond.fieldLink "LandMapModel$Laid" (238 : Nat) "LandMapModel$Feature" "kind" "I") ∈ lw_all := lw_g (lw_at lw_m14 108 rfl) rfl
theorem q3406 : (Jvm.Cond.fieldLink "LandMapModel" (235 : Nat) "LandMapModel$Feature" "kind" "I") ∈ lw_all := lw_g (lw_at lw_m14 109 rfl) rfl
theorem q3407 : (Jvm.Cond.fieldLink "LandMapModel$Feature" (13 : Nat) "LandMapModel$Feature" "value" "I") ∈ lw_all := lw_g (lw_at lw_m14 110 rfl) rfl
theorem q3408 : (Jvm.Cond.fieldLink "LandMapModel$Roads" (92 : Nat) "LandMapModel$Feature" "value" "I") ∈ lw_all := lw_g (lw_at lw_m14 111 rfl) rfl
theorem q3409 : (Jvm.Cond.fieldLink "LandMapModel$Overlay" (162 : Nat) "LandMapModel$Feature" "value" "I") ∈ lw_all := lw_g (lw_at lw_m14 112 rfl) rfl
theorem q3410 : (Jvm.Cond.fieldLink "LandMapModel" (238 : Nat) "LandMapModel$Feature" "value" "I") ∈ lw_all := lw_g (lw_at lw_m14 113 rfl) rfl
theorem q3411 : (Jvm.Cond.fieldLink "LandMapModel$Feature" (16 : Nat) "LandMapModel$Feature" "rows" "[[I") ∈ lw_all := lw_g (lw_at lw_m14 114 rfl) rfl
theorem q3412 : (Jvm.Cond.fieldLink "LandMapModel$Rules" (59 : Nat) "LandMapModel$Feature" "rows" "[[I") ∈ lw_all := lw_g (lw_at lw_m14 115 rfl) rfl
theorem q3413 : (Jvm.Cond.fieldLink "LandMapModel$Overlay" (113 : Nat) "LandMapModel$Feature" "rows" "[[I") ∈ lw_all := lw_g (lw_at lw_m14 116 rfl) rfl
theorem q3414 : (Jvm.Cond.fieldLink "LandMapModel$Laid" (110 : Nat) "LandMapModel$Feature" "rows" "[[I") ∈ lw_all := lw_g (lw_at lw_m14 117 rfl) rfl
theorem q3415 : (Jvm.Cond.fieldLink "LandMapModel$Relation" (151 : Nat) "LandMapModel$Feature" "rows" "[[I") ∈ lw_all := lw_g (lw_at lw_m14 118 rfl) rfl
theorem q3416 : (Jvm.Cond.fieldLink "LandMapModel" (241 : Nat) "LandMapModel$Feature" "rows" "[[I") ∈ lw_all := lw_g (lw_at lw_m14 119 rfl) rfl
theorem q3417 : (Jvm.Cond.laysFinal "LandMapModel$Feature" "LandMapModel$Feature" "kind" "I") ∈ lw_all := lw_g (lw_at lw_m14 120 rfl) rfl
theorem q3418 : (Jvm.Cond.soleField "LandMapModel$Feature" "kind") ∈ lw_all := lw_g (lw_at lw_m14 121 rfl) rfl
theorem q3419 : (Jvm.Cond.laysFinal "LandMapModel$Feature" "LandMapModel$Feature" "value" "I") ∈ lw_all := lw_g (lw_at lw_m14 122 rfl) rfl
theorem q3420 : (Jvm.Cond.soleField "LandMapModel$Feature" "value") ∈ lw_all := lw_g (lw_at lw_m14 123 rfl) rfl
theorem q3421 : (Jvm.Cond.laysFinal "LandMapModel$Feature" "LandMapModel$Feature" "rows" "[[I") ∈ lw_all := lw_g (lw_at lw_m14 124 rfl) rfl
theorem q3422 : (Jvm.Cond.soleField "LandMapModel$Feature" "rows") ∈ lw_all := lw_g (lw_at lw_m14 125 rfl) rfl
theorem q3423 : (Jvm.Cond.superclass "LandMapModel$Feature" "java/lang/Object") ∈ lw_all := lw_g (lw_at lw_m14 126 rfl) rfl
theorem q3424 : (Jvm.Cond.methodLink "LandMapModel" (175 : Nat) ({ cls := "java/util/ArrayList", name := "size", desc := "()I" } : Jvm.MethodName)) ∈ lw_all := lw_g (lw_at lw_m14 127 rfl) rfl
theorem q3425 : (Jvm.Cond.methodLink "LandMapModel" (215 : Nat) ({ cls := "java/util/ArrayList", name := "get", desc := "(I)Ljava/lang/Object;" } : Jvm.MethodName)) ∈ lw_all := lw_g (lw_at lw_m14 128 rfl) rfl
theorem q3426 : (Jvm.Cond.classLink "LandMapModel" (218 : Nat) "LandMapModel$Feature") ∈ lw_all := lw_g (lw_at lw_m14 129 rfl) rfl
theorem q3427 : (Jvm.Cond.methodLink "LandMapModel" (220 : Nat) ({ cls := "LandMapModel$Rules", name := "broken", desc := "(LLandMapModel$Feature;)I" } : Jvm.MethodName)) ∈ lw_all := lw_g (lw_at lw_m14 130 rfl) rfl
theorem q3428 : (Jvm.Cond.instanceMethod ({ cls := "LandMapModel$Rules", name := "broken", desc := "(LLandMapModel$Feature;)I" } : Jvm.MethodName)) ∈ lw_all := lw_g (lw_at lw_m14 131 rfl) rfl
theorem q3429 : (Jvm.Cond.selects "LandMapModel$Rules" ({ cls := "LandMapModel$Rules", name := "broken", desc := "(LLandMapModel$Feature;)I" } : Jvm.MethodName) ({ cls := "LandMapModel$Rules", name := "broken", desc := "(LLandMapModel$Feature;)I" } : Jvm.MethodName)) ∈ lw_all := lw_g (lw_at lw_m14 132 rfl) rfl
theorem q3430 : (Jvm.Cond.code ({ cls := "LandMapModel$Rules", name := "broken", desc := "(LLandMapModel$Feature;)I" } : Jvm.MethodName) prog_38_method_2_code (5 : Nat) (Option.some Jvm.ClassFile.FieldType.int)) ∈ lw_all := lw_g (lw_at lw_m14 133 rfl) rfl
theorem q3431 : (Jvm.Cond.methodLink "LandMapModel$Rules" (63 : Nat) ({ cls := "LandMapModel$Feature", name := "length", desc := "(I)I" } : Jvm.MethodName)) ∈ lw_all := lw_g (lw_at lw_m14 134 rfl) rfl
theorem q3432 : (Jvm.Cond.instanceMethod ({ cls := "LandMapModel$Feature", name := "length", desc := "(I)I" } : Jvm.MethodName)) ∈ lw_all := lw_g (lw_at lw_m14 135 rfl) rfl
theorem q3433 : (Jvm.Cond.selects "LandMapModel$Feature" ({ cls := "LandMapModel$Feature", name := "length", desc := "(I)I" } : Jvm.MethodName) ({ cls := "LandMapModel$Feature", name := "length", desc := "(I)I" } : Jvm.MethodName)) ∈ lw_all := lw_g (lw_at lw_m14 136 rfl) rfl
theorem q3434 : (Jvm.Cond.code ({ cls := "LandMapModel$Feature", name := "length", desc := "(I)I" } : Jvm.MethodName) prog_28_method_2_code (2 : Nat) (Option.some Jvm.ClassFile.FieldType.int)) ∈ lw_all := lw_g (lw_at lw_m14 137 rfl) rfl
theorem q3435 : (Jvm.Cond.methodLink "LandMapModel$Rules" (67 : Nat) ({ cls := "LandMapModel$Feature", name := "x", desc := "(II)I" } : Jvm.MethodName)) ∈ lw_all := lw_g (lw_at lw_m14 138 rfl) rfl
theorem q3436 : (Jvm.Cond.instanceMethod ({ cls := "LandMapModel$Feature", name := "x", desc := "(II)I" } : Jvm.MethodName)) ∈ lw_all := lw_g (lw_at lw_m14 139 rfl) rfl
theorem q3437 : (Jvm.Cond.selects "LandMapModel$Feature" ({ cls := "LandMapModel$Feature", name := "x", desc := "(II)I" } : Jvm.MethodName) ({ cls := "LandMapModel$Feature", name := "x", desc := "(II)I" } : Jvm.MethodName)) ∈ lw_all := lw_g (lw_at lw_m14 140 rfl) rfl
theorem q3438 : (Jvm.Cond.code ({ cls := "LandMapModel$Feature", name := "x", desc := "(II)I" } : Jvm.MethodName) prog_28_method_3_code (3 : Nat) (Option.some Jvm.ClassFile.FieldType.int)) ∈ lw_all := lw_g (lw_at lw_m14 141 rfl) rfl
theorem q3439 : (Jvm.Cond.methodLink "LandMapModel$Rules" (71 : Nat) ({ cls := "LandMapModel$Feature", name := "y", desc := "(II)I" } : Jvm.MethodName)) ∈ lw_all := lw_g (lw_at lw_m14 142 rfl) rfl
theorem q3440 : (Jvm.Cond.instanceMethod ({ cls := "LandMapModel$Feature", name := "y", desc := "(II)I" } : Jvm.MethodName)) ∈ lw_all := lw_g (lw_at lw_m14 143 rfl) rfl
theorem q3441 : (Jvm.Cond.selects "LandMapModel$Feature" ({ cls := "LandMapModel$Feature", name := "y", desc := "(II)I" } : Jvm.MethodName) ({ cls := "LandMapModel$Feature", name := "y", desc := "(II)I" } : Jvm.MethodName)) ∈ lw_all := lw_g (lw_at lw_m14 144 rfl) rfl
theorem q3442 : (Jvm.Cond.code ({ cls := "LandMapModel$Feature", name := "y", desc := "(II)I" } : Jvm.MethodName) prog_28_method_4_code (3 : Nat) (Option.some Jvm.ClassFile.FieldType.int)) ∈ lw_all := lw_g (lw_at lw_m14 145 rfl) rfl
theorem q3443 : (Jvm.Cond.methodLink "LandMapModel$Rules" (74 : Nat) ({ cls := "LandMapModel$Rules", name := "isSimple", desc := "(LLandMapModel$Feature;I)Z" } : Jvm.MethodName)) ∈ lw_all := lw_g (lw_at lw_m14 146 rfl) rfl
theorem q3444 : (Jvm.Cond.static ({ cls := "LandMapModel$Rules", name := "isSimple", desc := "(LLandMapModel$Feature;I)Z" } : Jvm.MethodName)) ∈ lw_all := lw_g (lw_at lw_m14 147 rfl) rfl
theorem q3445 : (Jvm.Cond.code ({ cls := "LandMapModel$Rules", name := "isSimple", desc := "(LLandMapModel$Feature;I)Z" } : Jvm.MethodName) prog_38_method_4_code (6 : Nat) (Option.some Jvm.ClassFile.FieldType.boolean)) ∈ lw_all := lw_g (lw_at lw_m14 148 rfl) rfl
theorem q3446 : (Jvm.Cond.methodLink "LandMapModel$Rules" (94 : Nat) ({ cls := "LandMapModel$Rules", name := "meet", desc := "(LLandMapModel$Feature;IIII)I" } : Jvm.MethodName)) ∈ lw_all := lw_g (lw_at lw_m14 149 rfl) rfl
theorem q3447 : (Jvm.Cond.static ({ cls := "LandMapModel$Rules", name := "meet", desc := "(LLandMapModel$Feature;IIII)I" } : Jvm.MethodName)) ∈ lw_all := lw_g (lw_at lw_m14 150 rfl) rfl
theorem q3448 : (Jvm.Cond.code ({ cls := "LandMapModel$Rules", name := "meet", desc := "(LLandMapModel$Feature;IIII)I" } : Jvm.MethodName) prog_38_method_3_code (5 : Nat) (Option.some Jvm.ClassFile.FieldType.int)) ∈ lw_all := lw_g (lw_at lw_m14 151 rfl) rfl
theorem q3449 : (Jvm.Cond.methodLinkNest "LandMapModel$Rules" (90 : Nat) ({ cls := "LandMapModel", name := "meeting", desc := "(JJJJJJJJ)I" } : Jvm.MethodName) "LandMapModel") ∈ lw_tbl := lw_at lw_m14 152 rfl
theorem q3450 : (Jvm.Cond.static ({ cls := "LandMapModel", name := "meeting", desc := "(JJJJJJJJ)I" } : Jvm.MethodName)) ∈ lw_all := lw_g (lw_at lw_m14 153 rfl) rfl
theorem q3451 : (Jvm.Cond.code ({ cls := "LandMapModel", name := "meeting", desc := "(JJJJJJJJ)I" } : Jvm.MethodName) prog_26_method_8_code (21 : Nat) (Option.some Jvm.ClassFile.FieldType.int)) ∈ lw_all := lw_g (lw_at lw_m14 154 rfl) rfl
theorem q3452 : (Jvm.Cond.methodLink "LandMapModel" (21 : Nat) ({ cls := "LandMapModel", name := "side", desc := "(JJJJJJ)J" } : Jvm.MethodName)) ∈ lw_all := lw_g (lw_at lw_m14 155 rfl) rfl
theorem q3453 : (Jvm.Cond.static ({ cls := "LandMapModel", name := "side", desc := "(JJJJJJ)J" } : Jvm.MethodName)) ∈ lw_all := lw_g (lw_at lw_m14 156 rfl) rfl
theorem q3454 : (Jvm.Cond.code ({ cls := "LandMapModel", name := "side", desc := "(JJJJJJ)J" } : Jvm.MethodName) prog_26_method_4_code (12 : Nat) (Option.some Jvm.ClassFile.FieldType.long)) ∈ lw_all := lw_g (lw_at lw_m14 157 rfl) rfl
theorem q3455 : (Jvm.Cond.methodLink "LandMapModel" (29 : Nat) ({ cls := "LandMapModel", name := "sign", desc := "(J)I" } : Jvm.MethodName)) ∈ lw_all := lw_g (lw_at lw_m14 158 rfl) rfl
theorem q3456 : (Jvm.Cond.static ({ cls := "LandMapModel", name := "sign", desc := "(J)I" } : Jvm.MethodName)) ∈ lw_all := lw_g (lw_at lw_m14 159 rfl) rfl
theorem q3457 : (Jvm.Cond.code ({ cls := "LandMapModel", name := "sign", desc := "(J)I" } : Jvm.MethodName) prog_26_method_5_code (2 : Nat) (Option.some Jvm.ClassFile.FieldType.int)) ∈ lw_all := lw_g (lw_at lw_m14 160 rfl) rfl
theorem q3458 : (Jvm.Cond.methodLink "LandMapModel" (33 : Nat) ({ cls := "LandMapModel", name := "straight", desc := "(JJJJJJJJ)I" } : Jvm.MethodName)) ∈ lw_all := lw_g (lw_at lw_m14 161 rfl) rfl
theorem q3459 : (Jvm.Cond.static ({ cls := "LandMapModel", name := "straight", desc := "(JJJJJJJJ)I" } : Jvm.MethodName)) ∈ lw_all := lw_g (lw_at lw_m14 162 rfl) rfl
theorem q3460 : (Jvm.Cond.code ({ cls := "LandMapModel", name := "straight", desc := "(JJJJJJJJ)I" } : Jvm.MethodName) prog_26_method_9_code (29 : Nat) (Option.some Jvm.ClassFile.FieldType.int)) ∈ lw_all := lw_g (lw_at lw_m14 163 rfl) rfl
theorem q3461 : (Jvm.Cond.methodLink "LandMapModel" (15 : Nat) ({ cls := "java/lang/Math", name := "min", desc := "(JJ)J" } : Jvm.MethodName)) ∈ lw_all := lw_g (lw_at lw_m14 164 rfl) rfl
theorem q3462 : (Jvm.Cond.methodLink "LandMapModel" (19 : Nat) ({ cls := "java/lang/Math", name := "max", desc := "(JJ)J" } : Jvm.MethodName)) ∈ lw_all := lw_g (lw_at lw_m14 165 rfl) rfl
theorem q3463 : (Jvm.Cond.methodLink "LandMapModel" (25 : Nat) ({ cls := "LandMapModel", name := "isBetween", desc := "(JJJJJJ)Z" } : Jvm.MethodName)) ∈ lw_all := lw_g (lw_at lw_m14 166 rfl) rfl
theorem q3464 : (Jvm.Cond.static ({ cls := "LandMapModel", name := "isBetween", desc := "(JJJJJJ)Z" } : Jvm.MethodName)) ∈ lw_all := lw_g (lw_at lw_m14 167 rfl) rfl
theorem q3465 : (Jvm.Cond.code ({ cls := "LandMapModel", name := "isBetween", desc := "(JJJJJJ)Z" } : Jvm.MethodName) prog_26_method_6_code (12 : Nat) (Option.some Jvm.ClassFile.FieldType.boolean)) ∈ lw_all := lw_g (lw_at lw_m14 168 rfl) rfl
theorem q3466 : (Jvm.Cond.methodLink "LandMapModel$Rules" (78 : Nat) ({ cls := "LandMapModel$Rules", name := "areApart", desc := "(LLandMapModel$Feature;II)Z" } : Jvm.MethodName)) ∈ lw_all := lw_g (lw_at lw_m14 169 rfl) rfl
theorem q3467 : (Jvm.Cond.static ({ cls := "LandMapModel$Rules", name := "areApart", desc := "(LLandMapModel$Feature;II)Z" } : Jvm.MethodName)) ∈ lw_all := lw_g (lw_at lw_m14 170 rfl) rfl
theorem q3468 : (Jvm.Cond.code ({ cls := "LandMapModel$Rules", name := "areApart", desc := "(LLandMapModel$Feature;II)Z" } : Jvm.MethodName) prog_38_method_5_code (5 : Nat) (Option.some Jvm.ClassFile.FieldType.boolean)) ∈ lw_all := lw_g (lw_at lw_m14 171 rfl) rfl
theorem q3469 : (Jvm.Cond.methodLink "LandMapModel$Rules" (82 : Nat) ({ cls := "LandMapModel$Rules", name := "cut", desc := "(LLandMapModel$Feature;)V" } : Jvm.MethodName)) ∈ lw_all := lw_g (lw_at lw_m14 172 rfl) rfl
theorem q3470 : (Jvm.Cond.privateMethod ({ cls := "LandMapModel$Rules", name := "cut", desc := "(LLandMapModel$Feature;)V" } : Jvm.MethodName)) ∈ lw_tbl := lw_at lw_m14 173 rfl
theorem q3471 : (Jvm.Cond.instanceMethod ({ cls := "LandMapModel$Rules", name := "cut", desc := "(LLandMapModel$Feature;)V" } : Jvm.MethodName)) ∈ lw_all := lw_g (lw_at lw_m14 174 rfl) rfl
theorem q3472 : (Jvm.Cond.code ({ cls := "LandMapModel$Rules", name := "cut", desc := "(LLandMapModel$Feature;)V" } : Jvm.MethodName) prog_38_method_6_code (5 : Nat) (Option.none : Option Jvm.ClassFile.FieldType)) ∈ lw_all := lw_g (lw_at lw_m14 175 rfl) rfl
theorem q3473 : (Jvm.Cond.methodLink "LandMapModel$Rules" (98 : Nat) ({ cls := "LandMapModel$Places", name := "clear", desc := "()V" } : Jvm.MethodName)) ∈ lw_all := lw_g (lw_at lw_m14 176 rfl) rfl
theorem q3474 : (Jvm.Cond.instanceMethod ({ cls := "LandMapModel$Places", name := "clear", desc := "()V" } : Jvm.MethodName)) ∈ lw_all := lw_g (lw_at lw_m14 177 rfl) rfl
theorem q3475 : (Jvm.Cond.selects "LandMapModel$Places" ({ cls := "LandMapModel$Places", name := "clear", desc := "()V" } : Jvm.MethodName) ({ cls := "LandMapModel$Places", name := "clear", desc := "()V" } : Jvm.MethodName)) ∈ lw_all := lw_g (lw_at lw_m14 178 rfl) rfl
theorem q3476 : (Jvm.Cond.code ({ cls := "LandMapModel$Places", name := "clear", desc := "()V" } : Jvm.MethodName) prog_34_method_2_code (1 : Nat) (Option.none : Option Jvm.ClassFile.FieldType)) ∈ lw_all := lw_g (lw_at lw_m14 179 rfl) rfl
theorem q3477 : (Jvm.Cond.methodLink "LandMapModel$Rules" (101 : Nat) ({ cls := "LandMapModel$Steps", name := "clear", desc := "()V" } : Jvm.MethodName)) ∈ lw_all := lw_g (lw_at lw_m14 180 rfl) rfl
theorem q3478 : (Jvm.Cond.instanceMethod ({ cls := "LandMapModel$Steps", name := "clear", desc := "()V" } : Jvm.MethodName)) ∈ lw_all := lw_g (lw_at lw_m14 181 rfl) rfl
theorem q3479 : (Jvm.Cond.selects "LandMapModel$Steps" ({ cls := "LandMapModel$Steps", name := "clear", desc := "()V" } : Jvm.MethodName) ({ cls := "LandMapModel$Steps", name := "clear", desc := "()V" } : Jvm.MethodName)) ∈ lw_all := lw_g (lw_at lw_m14 182 rfl) rfl
theorem q3480 : (Jvm.Cond.code ({ cls := "LandMapModel$Steps", name := "clear", desc := "()V" } : Jvm.MethodName) prog_41_method_2_code (1 : Nat) (Option.none : Option Jvm.ClassFile.FieldType)) ∈ lw_all := lw_g (lw_at lw_m14 183 rfl) rfl
theorem q3481 : (Jvm.Cond.methodLink "LandMapModel$Steps" (35 : Nat) ({ cls := "LandMapModel$Ints", name := "clear", desc := "()V" } : Jvm.MethodName)) ∈ lw_all := lw_g (lw_at lw_m14 184 rfl) rfl
theorem q3482 : (Jvm.Cond.instanceMethod ({ cls := "LandMapModel$Ints", name := "clear", desc := "()V" } : Jvm.MethodName)) ∈ lw_all := lw_g (lw_at lw_m14 185 rfl) rfl
theorem q3483 : (Jvm.Cond.selects "LandMapModel$Ints" ({ cls := "LandMapModel$Ints", name := "clear", desc := "()V" } : Jvm.MethodName) ({ cls := "LandMapModel$Ints", name := "clear", desc := "()V" } : Jvm.MethodName)) ∈ lw_all := lw_g (lw_at lw_m14 186 rfl) rfl
theorem q3484 : (Jvm.Cond.code ({ cls := "LandMapModel$Ints", name := "clear", desc := "()V" } : Jvm.MethodName) prog_30_method_2_code (1 : Nat) (Option.none : Option Jvm.ClassFile.FieldType)) ∈ lw_all := lw_g (lw_at lw_m14 187 rfl) rfl
theorem q3485 : (Jvm.Cond.methodLink "LandMapModel$Rules" (102 : Nat) ({ cls := "LandMapModel$Places", name := "add", desc := "(II)V" } : Jvm.MethodName)) ∈ lw_all := lw_g (lw_at lw_m14 188 rfl) rfl
theorem q3486 : (Jvm.Cond.instanceMethod ({ cls := "LandMapModel$Places", name := "add", desc := "(II)V" } : Jvm.MethodName)) ∈ lw_all := lw_g (lw_at lw_m14 189 rfl) rfl
theorem q3487 : (Jvm.Cond.selects "LandMapModel$Places" ({ cls := "LandMapModel$Places", name := "add", desc := "(II)V" } : Jvm.MethodName) ({ cls := "LandMapModel$Places", name := "add", desc := "(II)V" } : Jvm.MethodName)) ∈ lw_all := lw_g (lw_at lw_m14 190 rfl) rfl
theorem q3488 : (Jvm.Cond.code ({ cls := "LandMapModel$Places", name := "add", desc := "(II)V" } : Jvm.MethodName) prog_34_method_4_code (5 : Nat) (Option.none : Option Jvm.ClassFile.FieldType)) ∈ lw_all := lw_g (lw_at lw_m14 191 rfl) rfl
theorem q3489 : (Jvm.Cond.methodLink "LandMapModel$Places" (19 : Nat) ({ cls := "LandMapModel$Places", name := "keyOf", desc := "(II)J" } : Jvm.MethodName)) ∈ lw_all := lw_g (lw_at lw_m14 192 rfl) rfl
theorem q3490 : (Jvm.Cond.static ({ cls := "LandMapModel$Places", name := "keyOf", desc := "(II)J" } : Jvm.MethodName)) ∈ lw_all := lw_g (lw_at lw_m14 193 rfl) rfl
theorem q3491 : (Jvm.Cond.code ({ cls := "LandMapModel$Places", name := "keyOf", desc := "(II)J" } : Jvm.MethodName) prog_34_method_3_code (2 : Nat) (Option.some Jvm.ClassFile.FieldType.long)) ∈ lw_all := lw_g (lw_at lw_m14 194 rfl) rfl
theorem q3492 : (Jvm.Cond.constantLong "LandMapModel$Places" (17 : Nat) (1073741824 : Int64)) ∈ lw_all := lw_g (lw_at lw_m14 195 rfl) rfl
theorem q3493 : (Jvm.Cond.methodLink "LandMapModel$Rules" (106 : Nat) ({ cls := "LandMapModel$Places", name := "sort", desc := "()V" } : Jvm.MethodName)) ∈ lw_all := lw_g (lw_at lw_m14 196 rfl) rfl
theorem q3494 : (Jvm.Cond.instanceMethod ({ cls := "LandMapModel$Places", name := "sort", desc := "()V" } : Jvm.MethodName)) ∈ lw_all := lw_g (lw_at lw_m14 197 rfl) rfl
theorem q3495 : (Jvm.Cond.selects "LandMapModel$Places" ({ cls := "LandMapModel$Places", name := "sort", desc := "()V" } : Jvm.MethodName) ({ cls := "LandMapModel$Places", name := "sort", desc := "()V" } : Jvm.MethodName)) ∈ lw_all := lw_g (lw_at lw_m14 198 rfl) rfl
theorem q3496 : (Jvm.Cond.code ({ cls := "LandMapModel$Places", name := "sort", desc := "()V" } : Jvm.MethodName) prog_34_method_7_code (4 : Nat) (Option.none : Option Jvm.ClassFile.FieldType)) ∈ lw_all := lw_g (lw_at lw_m14 199 rfl) rfl
theorem q3497 : (Jvm.Cond.methodLink "LandMapModel$Places" (25 : Nat) ({ cls := "LandMapModel$Places", name := "sink", desc := "(II)V" } : Jvm.MethodName)) ∈ lw_all := lw_g (lw_at lw_m14 200 rfl) rfl
theorem q3498 : (Jvm.Cond.privateMethod ({ cls := "LandMapModel$Places", name := "sink", desc := "(II)V" } : Jvm.MethodName)) ∈ lw_tbl := lw_at lw_m14 201 rfl
theorem q3499 : (Jvm.Cond.instanceMethod ({ cls := "LandMapModel$Places", name := "sink", desc := "(II)V" } : Jvm.MethodName)) ∈ lw_all := lw_g (lw_at lw_m14 202 rfl) rfl
theorem q3500 : (Jvm.Cond.code ({ cls := "LandMapModel$Places", name := "sink", desc := "(II)V" } : Jvm.MethodName) prog_34_method_8_code (8 : Nat) (Option.none : Option Jvm.ClassFile.FieldType)) ∈ lw_all := lw_g (lw_at lw_m14 203 rfl) rfl
theorem q3501 : (Jvm.Cond.methodLink "LandMapModel$Rules" (109 : Nat) ({ cls := "LandMapModel$Ints", name := "clear", desc := "()V" } : Jvm.MethodName)) ∈ lw_all := lw_g (lw_at lw_m14 204 rfl) rfl
theorem q3502 : (Jvm.Cond.methodLink "LandMapModel$Rules" (113 : Nat) ({ cls := "LandMapModel$Places", name := "x", desc := "(I)I" } : Jvm.MethodName)) ∈ lw_all := lw_g (lw_at lw_m14 205 rfl) rfl
theorem q3503 : (Jvm.Cond.instanceMethod ({ cls := "LandMapModel$Places", name := "x", desc := "(I)I" } : Jvm.MethodName)) ∈ lw_all := lw_g (lw_at lw_m14 206 rfl) rfl
theorem q3504 : (Jvm.Cond.selects "LandMapModel$Places" ({ cls := "LandMapModel$Places", name := "x", desc := "(I)I" } : Jvm.MethodName) ({ cls := "LandMapModel$Places", name := "x", desc := "(I)I" } : Jvm.MethodName)) ∈ lw_all := lw_g (lw_at lw_m14 207 rfl) rfl
theorem q3505 : (Jvm.Cond.code ({ cls := "LandMapModel$Places", name := "x", desc := "(I)I" } : Jvm.MethodName) prog_34_method_5_code (2 : Nat) (Option.some Jvm.ClassFile.FieldType.int)) ∈ lw_all := lw_g (lw_at lw_m14 208 rfl) rfl
theorem q3506 : (Jvm.Cond.methodLink "LandMapModel$Rules" (115 : Nat) ({ cls := "LandMapModel$Places", name := "y", desc := "(I)I" } : Jvm.MethodName)) ∈ lw_all := lw_g (lw_at lw_m14 209 rfl) rfl
theorem q3507 : (Jvm.Cond.instanceMethod ({ cls := "LandMapModel$Places", name := "y", desc := "(I)I" } : Jvm.MethodName)) ∈ lw_all := lw_g (lw_at lw_m14 210 rfl) rfl
theorem q3508 : (Jvm.Cond.selects "LandMapModel$Places" ({ cls := "LandMapModel$Places", name := "y", desc := "(I)I" } : Jvm.MethodName) ({ cls := "LandMapModel$Places", name := "y", desc := "(I)I" } : Jvm.MethodName)) ∈ lw_all := lw_g (lw_at lw_m14 211 rfl) rfl
theorem q3509 : (Jvm.Cond.code ({ cls := "LandMapModel$Places", name := "y", desc := "(I)I" } : Jvm.MethodName) prog_34_method_6_code (2 : Nat) (Option.some Jvm.ClassFile.FieldType.int)) ∈ lw_all := lw_g (lw_at lw_m14 212 rfl) rfl
theorem q3510 : (Jvm.Cond.constantLong "LandMapModel$Places" (23 : Nat) (4294967295 : Int64)) ∈ lw_all := lw_g (lw_at lw_m14 213 rfl) rfl
theorem q3511 : (Jvm.Cond.methodLinkNest "LandMapModel$Rules" (117 : Nat) ({ cls := "LandMapModel", name := "isOn", desc := "(JJJJJJ)Z" } : Jvm.MethodName) "LandMapModel") ∈ lw_tbl := lw_at lw_m14 214 rfl
theorem q3512 : (Jvm.Cond.static ({ cls := "LandMapModel", name := "isOn", desc := "(JJJJJJ)Z" } : Jvm.MethodName)) ∈ lw_all := lw_g (lw_at lw_m14 215 rfl) rfl
theorem q3513 : (Jvm.Cond.code ({ cls := "LandMapModel", name := "isOn", desc := "(JJJJJJ)Z" } : Jvm.MethodName) prog_26_method_7_code (12 : Nat) (Option.some Jvm.ClassFile.FieldType.boolean)) ∈ lw_all := lw_g (lw_at lw_m14 216 rfl) rfl
theorem q3514 : (Jvm.Cond.methodLink "LandMapModel$Rules" (121 : Nat) ({ cls := "LandMapModel$Ints", name := "add", desc := "(I)V" } : Jvm.MethodName)) ∈ lw_all := lw_g (lw_at lw_m14 217 rfl) rfl
theorem q3515 : (Jvm.Cond.instanceMethod ({ cls := "LandMapModel$Ints", name := "add", desc := "(I)V" } : Jvm.MethodName)) ∈ lw_all := lw_g (lw_at lw_m14 218 rfl) rfl
theorem q3516 : (Jvm.Cond.selects "LandMapModel$Ints" ({ cls := "LandMapModel$Ints", name := "add", desc := "(I)V" } : Jvm.MethodName) ({ cls := "LandMapModel$Ints", name := "add", desc := "(I)V" } : Jvm.MethodName)) ∈ lw_all := lw_g (lw_at lw_m14 219 rfl) rfl
theorem q3517 : (Jvm.Cond.code ({ cls := "LandMapModel$Ints", name := "add", desc := "(I)V" } : Jvm.MethodName) prog_30_method_3_code (4 : Nat) (Option.none : Option Jvm.ClassFile.FieldType)) ∈ lw_all := lw_g (lw_at lw_m14 220 rfl) rfl
theorem q3518 : (Jvm.Cond.methodLink "LandMapModel$Rules" (128 : Nat) ({ cls := "LandMapModel$Steps", name := "add", desc := "(III)V" } : Jvm.MethodName)) ∈ lw_all := lw_g (lw_at lw_m14 221 rfl) rfl
theorem q3519 : (Jvm.Cond.instanceMethod ({ cls := "LandMapModel$Steps", name := "add", desc := "(III)V" } : Jvm.MethodName)) ∈ lw_all := lw_g (lw_at lw_m14 222 rfl) rfl
theorem q3520 : (Jvm.Cond.selects "LandMapModel$Steps" ({ cls := "LandMapModel$Steps", name := "add", desc := "(III)V" } : Jvm.MethodName) ({ cls := "LandMapModel$Steps", name := "add", desc := "(III)V" } : Jvm.MethodName)) ∈ lw_all := lw_g (lw_at lw_m14 223 rfl) rfl
theorem q3521 : (Jvm.Cond.code ({ cls := "LandMapModel$Steps", name := "add", desc := "(III)V" } : Jvm.MethodName) prog_41_method_3_code (4 : Nat) (Option.none : Option Jvm.ClassFile.FieldType)) ∈ lw_all := lw_g (lw_at lw_m14 224 rfl) rfl
theorem q3522 : (Jvm.Cond.methodLink "LandMapModel$Steps" (38 : Nat) ({ cls := "LandMapModel$Ints", name := "add", desc := "(I)V" } : Jvm.MethodName)) ∈ lw_all := lw_g (lw_at lw_m14 225 rfl) rfl
theorem q3523 : (Jvm.Cond.methodLink "LandMapModel$Rules" (131 : Nat) ({ cls := "LandMapModel$Steps", name := "sort", desc := "()I" } : Jvm.MethodName)) ∈ lw_all := lw_g (lw_at lw_m14 226 rfl) rfl
theorem q3524 : (Jvm.Cond.instanceMethod ({ cls := "LandMapModel$Steps", name := "sort", desc := "()I" } : Jvm.MethodName)) ∈ lw_all := lw_g (lw_at lw_m14 227 rfl) rfl
theorem q3525 : (Jvm.Cond.selects "LandMapModel$Steps" ({ cls := "LandMapModel$Steps", name := "sort", desc := "()I" } : Jvm.MethodName) ({ cls := "LandMapModel$Steps", name := "sort", desc := "()I" } : Jvm.MethodName)) ∈ lw_all := lw_g (lw_at lw_m14 228 rfl) rfl
theorem q3526 : (Jvm.Cond.code ({ cls := "LandMapModel$Steps", name := "sort", desc := "()I" } : Jvm.MethodName) prog_41_method_5_code (2 : Nat) (Option.some Jvm.ClassFile.FieldType.int)) ∈ lw_all := lw_g (lw_at lw_m14 229 rfl) rfl
theorem q3527 : (Jvm.Cond.methodLink "LandMapModel$Steps" (46 : Nat) ({ cls := "LandMapModel$Places", name := "clear", desc := "()V" } : Jvm.MethodName)) ∈ lw_all := lw_g (lw_at lw_m14 230 rfl) rfl
theorem q3528 : (Jvm.Cond.methodLink "LandMapModel$Steps" (47 : Nat) ({ cls := "LandMapModel$Steps", name := "size", desc := "()I" } : Jvm.MethodName)) ∈ lw_all := lw_g (lw_at lw_m14 231 rfl) rfl
theorem q3529 : (Jvm.Cond.instanceMethod ({ cls := "LandMapModel$Steps", name := "size", desc := "()I" } : Jvm.MethodName)) ∈ lw_all := lw_g (lw_at lw_m14 232 rfl) rfl
theorem q3530 : (Jvm.Cond.selects "LandMapModel$Steps" ({ cls := "LandMapModel$Steps", name := "size", desc := "()I" } : Jvm.MethodName) ({ cls := "LandMapModel$Steps", name := "size", desc := "()I" } : Jvm.MethodName)) ∈ lw_all := lw_g (lw_at lw_m14 233 rfl) rfl
theorem q3531 : (Jvm.Cond.code ({ cls := "LandMapModel$Steps", name := "size", desc := "()I" } : Jvm.MethodName) prog_41_method_4_code (1 : Nat) (Option.some Jvm.ClassFile.FieldType.int)) ∈ lw_all := lw_g (lw_at lw_m14 234 rfl) rfl
theorem q3532 : (Jvm.Cond.methodLink "LandMapModel$Steps" (53 : Nat) ({ cls := "java/lang/Math", name := "min", desc := "(II)I" } : Jvm.MethodName)) ∈ lw_all := lw_g (lw_at lw_m14 235 rfl) rfl
theorem q3533 : (Jvm.Cond.methodLink "LandMapModel$Steps" (59 : Nat) ({ cls := "java/lang/Math", name := "max", desc := "(II)I" } : Jvm.MethodName)) ∈ lw_all := lw_g (lw_at lw_m14 236 rfl) rfl
theorem q3534 : (Jvm.Cond.methodLink "LandMapModel$Steps" (62 : Nat) ({ cls := "LandMapModel$Places", name := "add", desc := "(II)V" } : Jvm.MethodName)) ∈ lw_all := lw_g (lw_at lw_m14 237 rfl) rfl
theorem q3535 : (Jvm.Cond.methodLink "LandMapModel$Steps" (65 : Nat) ({ cls := "LandMapModel$Places", name := "sort", desc := "()V" } : Jvm.MethodName)) ∈ lw_all := lw_g (lw_at lw_m14 238 rfl) rfl
theorem q3536 : (Jvm.Cond.methodLink "LandMapModel$Steps" (68 : Nat) ({ cls := "LandMapModel$Places", name := "find", desc := "(II)I" } : Jvm.MethodName)) ∈ lw_all := lw_g (lw_at lw_m14 239 rfl) rfl
theorem q3537 : (Jvm.Cond.instanceMethod ({ cls := "LandMapModel$Places", name := "find", desc := "(II)I" } : Jvm.MethodName)) ∈ lw_all := lw_g (lw_at lw_m15 0 rfl) rfl
theorem q3538 : (Jvm.Cond.selects "LandMapModel$Places" ({ cls := "LandMapModel$Places", name := "find", desc := "(II)I" } : Jvm.MethodName) ({ cls := "LandMapModel$Places", name := "find", desc := "(II)I" } : Jvm.MethodName)) ∈ lw_all := lw_g (lw_at lw_m15 1 rfl) rfl
theorem q3539 : (Jvm.Cond.code ({ cls := "LandMapModel$Places", name := "find", desc := "(II)I" } : Jvm.MethodName) prog_34_method_9_code (8 : Nat) (Option.some Jvm.ClassFile.FieldType.int)) ∈ lw_all := lw_g (lw_at lw_m15 2 rfl) rfl
theorem q3540 : (Jvm.Cond.methodLink "LandMapModel$Rules" (134 : Nat) ({ cls := "LandMapModel$Steps", name := "into", desc := "(LLandMapModel$Net;LLandMapModel$Places;)V" } : Jvm.MethodName)) ∈ lw_all := lw_g (lw_at lw_m15 3 rfl) rfl
theorem q3541 : (Jvm.Cond.instanceMethod ({ cls := "LandMapModel$Steps", name := "into", desc := "(LLandMapModel$Net;LLandMapModel$Places;)V" } : Jvm.MethodName)) ∈ lw_all := lw_g (lw_at lw_m15 4 rfl) rfl
theorem q3542 : (Jvm.Cond.selects "LandMapModel$Steps" ({ cls := "LandMapModel$Steps", name := "into", desc := "(LLandMapModel$Net;LLandMapModel$Places;)V" } : Jvm.MethodName) ({ cls := "LandMapModel$Steps", name := "into", desc := "(LLandMapModel$Net;LLandMapModel$Places;)V" } : Jvm.MethodName)) ∈ lw_all := lw_g (lw_at lw_m15 5 rfl) rfl
theorem q3543 : (Jvm.Cond.code ({ cls := "LandMapModel$Steps", name := "into", desc := "(LLandMapModel$Net;LLandMapModel$Places;)V" } : Jvm.MethodName) prog_41_method_6_code (5 : Nat) (Option.none : Option Jvm.ClassFile.FieldType)) ∈ lw_all := lw_g (lw_at lw_m15 6 rfl) rfl
theorem q3544 : (Jvm.Cond.methodLink "LandMapModel$Steps" (72 : Nat) ({ cls := "LandMapModel$Net", name := "room", desc := "(II)V" } : Jvm.MethodName)) ∈ lw_all := lw_g (lw_at lw_m15 7 rfl) rfl
theorem q3545 : (Jvm.Cond.instanceMethod ({ cls := "LandMapModel$Net", name := "room", desc := "(II)V" } : Jvm.MethodName)) ∈ lw_all := lw_g (lw_at lw_m15 8 rfl) rfl
theorem q3546 : (Jvm.Cond.selects "LandMapModel$Net" ({ cls := "LandMapModel$Net", name := "room", desc := "(II)V" } : Jvm.MethodName) ({ cls := "LandMapModel$Net", name := "room", desc := "(II)V" } : Jvm.MethodName)) ∈ lw_all := lw_g (lw_at lw_m15 9 rfl) rfl
theorem q3547 : (Jvm.Cond.code ({ cls := "LandMapModel$Net", name := "room", desc := "(II)V" } : Jvm.MethodName) prog_32_method_2_code (4 : Nat) (Option.none : Option Jvm.ClassFile.FieldType)) ∈ lw_all := lw_g (lw_at lw_m15 10 rfl) rfl
theorem q3548 : (Jvm.Cond.methodLinkNest "LandMapModel$Net" (66 : Nat) ({ cls := "LandMapModel", name := "lengthFor", desc := "(I)I" } : Jvm.MethodName) "LandMapModel") ∈ lw_tbl := lw_at lw_m15 11 rfl
theorem q3549 : (Jvm.Cond.static ({ cls := "LandMapModel", name := "lengthFor", desc := "(I)I" } : Jvm.MethodName)) ∈ lw_all := lw_g (lw_at lw_m15 12 rfl) rfl
theorem q3550 : (Jvm.Cond.code ({ cls := "LandMapModel", name := "lengthFor", desc := "(I)I" } : Jvm.MethodName) prog_26_method_1_code (1 : Nat) (Option.some Jvm.ClassFile.FieldType.int)) ∈ lw_all := lw_g (lw_at lw_m15 13 rfl) rfl
theorem q3551 : (Jvm.Cond.methodLink "LandMapModel" (3 : Nat) ({ cls := "java/lang/Math", name := "max", desc := "(II)I" } : Jvm.MethodName)) ∈ lw_all := lw_g (lw_at lw_m15 14 rfl) rfl
theorem q3552 : (Jvm.Cond.methodLink "LandMapModel$Steps" (86 : Nat) ({ cls := "LandMapModel$Places", name := "x", desc := "(I)I" } : Jvm.MethodName)) ∈ lw_all := lw_g (lw_at lw_m15 15 rfl) rfl
theorem q3553 : (Jvm.Cond.methodLink "LandMapModel$Steps" (92 : Nat) ({ cls := "LandMapModel$Places", name := "y", desc := "(I)I" } : Jvm.MethodName)) ∈ lw_all := lw_g (lw_at lw_m15 16 rfl) rfl
theorem q3554 : (Jvm.Cond.methodLink "LandMapModel$Steps" (100 : Nat) ({ cls := "LandMapModel$Net", name := "build", desc := "()V" } : Jvm.MethodName)) ∈ lw_all := lw_g (lw_at lw_m15 17 rfl) rfl
theorem q3555 : (Jvm.Cond.instanceMethod ({ cls := "LandMapModel$Net", name := "build", desc := "()V" } : Jvm.MethodName)) ∈ lw_all := lw_g (lw_at lw_m15 18 rfl) rfl
theorem q3556 : (Jvm.Cond.selects "LandMapModel$Net" ({ cls := "LandMapModel$Net", name := "build", desc := "()V" } : Jvm.MethodName) ({ cls := "LandMapModel$Net", name := "build", desc := "()V" } : Jvm.MethodName)) ∈ lw_all := lw_g (lw_at lw_m15 19 rfl) rfl
theorem q3557 : (Jvm.Cond.code ({ cls := "LandMapModel$Net", name := "build", desc := "()V" } : Jvm.MethodName) prog_32_method_13_code (2 : Nat) (Option.none : Option Jvm.ClassFile.FieldType)) ∈ lw_all := lw_g (lw_at lw_m15 20 rfl) rfl
theorem q3558 : (Jvm.Cond.methodLink "LandMapModel$Net" (99 : Nat) ({ cls := "LandMapModel$Net", name := "sortOut", desc := "()V" } : Jvm.MethodName)) ∈ lw_all := lw_g (lw_at lw_m15 21 rfl) rfl
theorem q3559 : (Jvm.Cond.privateMethod ({ cls := "LandMapModel$Net", name := "sortOut", desc := "()V" } : Jvm.MethodName)) ∈ lw_tbl := lw_at lw_m15 22 rfl
theorem q3560 : (Jvm.Cond.instanceMethod ({ cls := "LandMapModel$Net", name := "sortOut", desc := "()V" } : Jvm.MethodName)) ∈ lw_all := lw_g (lw_at lw_m15 23 rfl) rfl
theorem q3561 : (Jvm.Cond.code ({ cls := "LandMapModel$Net", name := "sortOut", desc := "()V" } : Jvm.MethodName) prog_32_method_7_code (6 : Nat) (Option.none : Option Jvm.ClassFile.FieldType)) ∈ lw_all := lw_g (lw_at lw_m15 24 rfl) rfl
theorem q3562 : (Jvm.Cond.methodLink "LandMapModel$Net" (72 : Nat) ({ cls := "LandMapModel$Net", name := "start", desc := "(I)I" } : Jvm.MethodName)) ∈ lw_all := lw_g (lw_at lw_m15 25 rfl) rfl
theorem q3563 : (Jvm.Cond.instanceMethod ({ cls := "LandMapModel$Net", name := "start", desc := "(I)I" } : Jvm.MethodName)) ∈ lw_all := lw_g (lw_at lw_m15 26 rfl) rfl
theorem q3564 : (Jvm.Cond.selects "LandMapModel$Net" ({ cls := "LandMapModel$Net", name := "start", desc := "(I)I" } : Jvm.MethodName) ({ cls := "LandMapModel$Net", name := "start", desc := "(I)I" } : Jvm.MethodName)) ∈ lw_all := lw_g (lw_at lw_m15 27 rfl) rfl
theorem q3565 : (Jvm.Cond.code ({ cls := "LandMapModel$Net", name := "start", desc := "(I)I" } : Jvm.MethodName) prog_32_method_3_code (2 : Nat) (Option.some Jvm.ClassFile.FieldType.int)) ∈ lw_all := lw_g (lw_at lw_m15 28 rfl) rfl
theorem q3566 : (Jvm.Cond.methodLink "LandMapModel$Net" (92 : Nat) ({ cls := "LandMapModel$Net", name := "isBefore", desc := "(II)Z" } : Jvm.MethodName)) ∈ lw_all := lw_g (lw_at lw_m15 29 rfl) rfl
theorem q3567 : (Jvm.Cond.privateMethod ({ cls := "LandMapModel$Net", name := "isBefore", desc := "(II)Z" } : Jvm.MethodName)) ∈ lw_tbl := lw_at lw_m15 30 rfl
theorem q3568 : (Jvm.Cond.instanceMethod ({ cls := "LandMapModel$Net", name := "isBefore", desc := "(II)Z" } : Jvm.MethodName)) ∈ lw_all := lw_g (lw_at lw_m15 31 rfl) rfl
theorem q3569 : (Jvm.Cond.code ({ cls := "LandMapModel$Net", name := "isBefore", desc := "(II)Z" } : Jvm.MethodName) prog_32_method_6_code (4 : Nat) (Option.some Jvm.ClassFile.FieldType.boolean)) ∈ lw_all := lw_g (lw_at lw_m15 32 rfl) rfl
theorem q3570 : (Jvm.Cond.methodLink "LandMapModel$Net" (78 : Nat) ({ cls := "LandMapModel$Net", name := "half", desc := "(I)I" } : Jvm.MethodName)) ∈ lw_all := lw_g (lw_at lw_m15 33 rfl) rfl
theorem q3571 : (Jvm.Cond.privateMethod ({ cls := "LandMapModel$Net", name := "half", desc := "(I)I" } : Jvm.MethodName)) ∈ lw_tbl := lw_at lw_m15 34 rfl
theorem q3572 : (Jvm.Cond.instanceMethod ({ cls := "LandMapModel$Net", name := "half", desc := "(I)I" } : Jvm.MethodName)) ∈ lw_all := lw_g (lw_at lw_m15 35 rfl) rfl
theorem q3573 : (Jvm.Cond.code ({ cls := "LandMapModel$Net", name := "half", desc := "(I)I" } : Jvm.MethodName) prog_32_method_5_code (4 : Nat) (Option.some Jvm.ClassFile.FieldType.int)) ∈ lw_all := lw_g (lw_at lw_m15 36 rfl) rfl
theorem q3574 : (Jvm.Cond.methodLink "LandMapModel$Net" (75 : Nat) ({ cls := "LandMapModel$Net", name := "end", desc := "(I)I" } : Jvm.MethodName)) ∈ lw_all := lw_g (lw_at lw_m15 37 rfl) rfl
theorem q3575 : (Jvm.Cond.instanceMethod ({ cls := "LandMapModel$Net", name := "end", desc := "(I)I" } : Jvm.MethodName)) ∈ lw_all := lw_g (lw_at lw_m15 38 rfl) rfl
theorem q3576 : (Jvm.Cond.selects "LandMapModel$Net" ({ cls := "LandMapModel$Net", name := "end", desc := "(I)I" } : Jvm.MethodName) ({ cls := "LandMapModel$Net", name := "end", desc := "(I)I" } : Jvm.MethodName)) ∈ lw_all := lw_g (lw_at lw_m15 39 rfl) rfl
theorem q3577 : (Jvm.Cond.code ({ cls := "LandMapModel$Net", name := "end", desc := "(I)I" } : Jvm.MethodName) prog_32_method_4_code (2 : Nat) (Option.some Jvm.ClassFile.FieldType.int)) ∈ lw_all := lw_g (lw_at lw_m15 40 rfl) rfl
theorem q3578 : (Jvm.Cond.methodLinkNest "LandMapModel$Net" (81 : Nat) ({ cls := "LandMapModel", name := "side", desc := "(JJJJJJ)J" } : Jvm.MethodName) "LandMapModel") ∈ lw_tbl := lw_at lw_m15 41 rfl
theorem q3579 : (Jvm.Cond.methodLink "LandMapModel$Net" (102 : Nat) ({ cls := "LandMapModel$Net", name := "root", desc := "(I)I" } : Jvm.MethodName)) ∈ lw_all := lw_g (lw_at lw_m15 42 rfl) rfl
theorem q3580 : (Jvm.Cond.privateMethod ({ cls := "LandMapModel$Net", name := "root", desc := "(I)I" } : Jvm.MethodName)) ∈ lw_tbl := lw_at lw_m15 43 rfl
theorem q3581 : (Jvm.Cond.instanceMethod ({ cls := "LandMapModel$Net", name := "root", desc := "(I)I" } : Jvm.MethodName)) ∈ lw_all := lw_g (lw_at lw_m15 44 rfl) rfl
theorem q3582 : (Jvm.Cond.code ({ cls := "LandMapModel$Net", name := "root", desc := "(I)I" } : Jvm.MethodName) prog_32_method_12_code (3 : Nat) (Option.some Jvm.ClassFile.FieldType.int)) ∈ lw_all := lw_g (lw_at lw_m15 45 rfl) rfl
theorem q3583 : (Jvm.Cond.methodLink "LandMapModel$Net" (108 : Nat) ({ cls := "LandMapModel$Net", name := "walk", desc := "(I)V" } : Jvm.MethodName)) ∈ lw_all := lw_g (lw_at lw_m15 46 rfl) rfl
theorem q3584 : (Jvm.Cond.privateMethod ({ cls := "LandMapModel$Net", name := "walk", desc := "(I)V" } : Jvm.MethodName)) ∈ lw_tbl := lw_at lw_m15 47 rfl
theorem q3585 : (Jvm.Cond.instanceMethod ({ cls := "LandMapModel$Net", name := "walk", desc := "(I)V" } : Jvm.MethodName)) ∈ lw_all := lw_g (lw_at lw_m15 48 rfl) rfl
theorem q3586 : (Jvm.Cond.code ({ cls := "LandMapModel$Net", name := "walk", desc := "(I)V" } : Jvm.MethodName) prog_32_method_15_code (3 : Nat) (Option.none : Option Jvm.ClassFile.FieldType)) ∈ lw_all := lw_g (lw_at lw_m15 49 rfl) rfl
theorem q3587 : (Jvm.Cond.methodLink "LandMapModel$Net" (122 : Nat) ({ cls := "LandMapModel$Net", name := "isLess", desc := "(II)Z" } : Jvm.MethodName)) ∈ lw_all := lw_g (lw_at lw_m15 50 rfl) rfl
theorem q3588 : (Jvm.Cond.privateMethod ({ cls := "LandMapModel$Net", name := "isLess", desc := "(II)Z" } : Jvm.MethodName)) ∈ lw_tbl := lw_at lw_m15 51 rfl
theorem q3589 : (Jvm.Cond.instanceMethod ({ cls := "LandMapModel$Net", name := "isLess", desc := "(II)Z" } : Jvm.MethodName)) ∈ lw_all := lw_g (lw_at lw_m15 52 rfl) rfl
theorem q3590 : (Jvm.Cond.code ({ cls := "LandMapModel$Net", name := "isLess", desc := "(II)Z" } : Jvm.MethodName) prog_32_method_14_code (3 : Nat) (Option.some Jvm.ClassFile.FieldType.boolean)) ∈ lw_all := lw_g (lw_at lw_m15 53 rfl) rfl
theorem q3591 : (Jvm.Cond.methodLink "LandMapModel$Net" (125 : Nat) ({ cls := "LandMapModel$Net", name := "next", desc := "(I)I" } : Jvm.MethodName)) ∈ lw_all := lw_g (lw_at lw_m15 54 rfl) rfl
theorem q3592 : (Jvm.Cond.instanceMethod ({ cls := "LandMapModel$Net", name := "next", desc := "(I)I" } : Jvm.MethodName)) ∈ lw_all := lw_g (lw_at lw_m15 55 rfl) rfl
theorem q3593 : (Jvm.Cond.selects "LandMapModel$Net" ({ cls := "LandMapModel$Net", name := "next", desc := "(I)I" } : Jvm.MethodName) ({ cls := "LandMapModel$Net", name := "next", desc := "(I)I" } : Jvm.MethodName)) ∈ lw_all := lw_g (lw_at lw_m15 56 rfl) rfl
theorem q3594 : (Jvm.Cond.code ({ cls := "LandMapModel$Net", name := "next", desc := "(I)I" } : Jvm.MethodName) prog_32_method_11_code (2 : Nat) (Option.some Jvm.ClassFile.FieldType.int)) ∈ lw_all := lw_g (lw_at lw_m15 57 rfl) rfl
theorem q3595 : (Jvm.Cond.methodLink "LandMapModel$Net" (96 : Nat) ({ cls := "LandMapModel$Net", name := "clockwise", desc := "(I)I" } : Jvm.MethodName)) ∈ lw_all := lw_g (lw_at lw_m15 58 rfl) rfl
theorem q3596 : (Jvm.Cond.instanceMethod ({ cls := "LandMapModel$Net", name := "clockwise", desc := "(I)I" } : Jvm.MethodName)) ∈ lw_all := lw_g (lw_at lw_m15 59 rfl) rfl
theorem q3597 : (Jvm.Cond.selects "LandMapModel$Net" ({ cls := "LandMapModel$Net", name := "clockwise", desc := "(I)I" } : Jvm.MethodName) ({ cls := "LandMapModel$Net", name := "clockwise", desc := "(I)I" } : Jvm.MethodName)) ∈ lw_all := lw_g (lw_at lw_m15 60 rfl) rfl
theorem q3598 : (Jvm.Cond.code ({ cls := "LandMapModel$Net", name := "clockwise", desc := "(I)I" } : Jvm.MethodName) prog_32_method_10_code (3 : Nat) (Option.some Jvm.ClassFile.FieldType.int)) ∈ lw_all := lw_g (lw_at lw_m15 61 rfl) rfl
theorem q3599 : (Jvm.Cond.methodLink "LandMapModel$Net" (112 : Nat) ({ cls := "LandMapModel$Net", name := "number", desc := "()V" } : Jvm.MethodName)) ∈ lw_all := lw_g (lw_at lw_m15 62 rfl) rfl
theorem q3600 : (Jvm.Cond.privateMethod ({ cls := "LandMapModel$Net", name := "number", desc := "()V" } : Jvm.MethodName)) ∈ lw_tbl := lw_at lw_m15 63 rfl
theorem q3601 : (Jvm.Cond.instanceMethod ({ cls := "LandMapModel$Net", name := "number", desc := "()V" } : Jvm.MethodName)) ∈ lw_all := lw_g (lw_at lw_m15 64 rfl) rfl
theorem q3602 : (Jvm.Cond.code ({ cls := "LandMapModel$Net", name := "number", desc := "()V" } : Jvm.MethodName) prog_32_method_16_code (5 : Nat) (Option.none : Option Jvm.ClassFile.FieldType)) ∈ lw_all := lw_g (lw_at lw_m15 65 rfl) rfl
theorem q3603 : (Jvm.Cond.methodLink "LandMapModel$Net" (115 : Nat) ({ cls := "LandMapModel$Net", name := "around", desc := "(II)I" } : Jvm.MethodName)) ∈ lw_all := lw_g (lw_at lw_m15 66 rfl) rfl
theorem q3604 : (Jvm.Cond.privateMethod ({ cls := "LandMapModel$Net", name := "around", desc := "(II)I" } : Jvm.MethodName)) ∈ lw_tbl := lw_at lw_m15 67 rfl
theorem q3605 : (Jvm.Cond.instanceMethod ({ cls := "LandMapModel$Net", name := "around", desc := "(II)I" } : Jvm.MethodName)) ∈ lw_all := lw_g (lw_at lw_m15 68 rfl) rfl
theorem q3606 : (Jvm.Cond.code ({ cls := "LandMapModel$Net", name := "around", desc := "(II)I" } : Jvm.MethodName) prog_32_method_17_code (3 : Nat) (Option.some Jvm.ClassFile.FieldType.int)) ∈ lw_all := lw_g (lw_at lw_m15 69 rfl) rfl
theorem q3607 : (Jvm.Cond.methodLink "LandMapModel$Net" (131 : Nat) ({ cls := "LandMapModel$Net", name := "inside", desc := "(JJI)I" } : Jvm.MethodName)) ∈ lw_all := lw_g (lw_at lw_m15 70 rfl) rfl
theorem q3608 : (Jvm.Cond.instanceMethod ({ cls := "LandMapModel$Net", name := "inside", desc := "(JJI)I" } : Jvm.MethodName)) ∈ lw_all := lw_g (lw_at lw_m15 71 rfl) rfl
theorem q3609 : (Jvm.Cond.selects "LandMapModel$Net" ({ cls := "LandMapModel$Net", name := "inside", desc := "(JJI)I" } : Jvm.MethodName) ({ cls := "LandMapModel$Net", name := "inside", desc := "(JJI)I" } : Jvm.MethodName)) ∈ lw_all := lw_g (lw_at lw_m15 72 rfl) rfl
theorem q3610 : (Jvm.Cond.code ({ cls := "LandMapModel$Net", name := "inside", desc := "(JJI)I" } : Jvm.MethodName) prog_32_method_18_code (9 : Nat) (Option.some Jvm.ClassFile.FieldType.int)) ∈ lw_all := lw_g (lw_at lw_m15 73 rfl) rfl
theorem q3611 : (Jvm.Cond.methodLink "LandMapModel$Net" (119 : Nat) ({ cls := "LandMapModel$Net", name := "tree", desc := "()V" } : Jvm.MethodName)) ∈ lw_all := lw_g (lw_at lw_m15 74 rfl) rfl
theorem q3612 : (Jvm.Cond.privateMethod ({ cls := "LandMapModel$Net", name := "tree", desc := "()V" } : Jvm.MethodName)) ∈ lw_tbl := lw_at lw_m15 75 rfl
theorem q3613 : (Jvm.Cond.instanceMethod ({ cls := "LandMapModel$Net", name := "tree", desc := "()V" } : Jvm.MethodName)) ∈ lw_all := lw_g (lw_at lw_m15 76 rfl) rfl
theorem q3614 : (Jvm.Cond.code ({ cls := "LandMapModel$Net", name := "tree", desc := "()V" } : Jvm.MethodName) prog_32_method_21_code (5 : Nat) (Option.none : Option Jvm.ClassFile.FieldType)) ∈ lw_all := lw_g (lw_at lw_m15 77 rfl) rfl
theorem q3615 : (Jvm.Cond.methodLink "LandMapModel$Net" (135 : Nat) ({ cls := "LandMapModel$Net", name := "face", desc := "(I)I" } : Jvm.MethodName)) ∈ lw_all := lw_g (lw_at lw_m15 78 rfl) rfl
theorem q3616 : (Jvm.Cond.instanceMethod ({ cls := "LandMapModel$Net", name := "face", desc := "(I)I" } : Jvm.MethodName)) ∈ lw_all := lw_g (lw_at lw_m15 79 rfl) rfl
theorem q3617 : (Jvm.Cond.selects "LandMapModel$Net" ({ cls := "LandMapModel$Net", name := "face", desc := "(I)I" } : Jvm.MethodName) ({ cls := "LandMapModel$Net", name := "face", desc := "(I)I" } : Jvm.MethodName)) ∈ lw_all := lw_g (lw_at lw_m15 80 rfl) rfl
theorem q3618 : (Jvm.Cond.code ({ cls := "LandMapModel$Net", name := "face", desc := "(I)I" } : Jvm.MethodName) prog_32_method_19_code (2 : Nat) (Option.some Jvm.ClassFile.FieldType.int)) ∈ lw_all := lw_g (lw_at lw_m15 81 rfl) rfl
theorem q3619 : (Jvm.Cond.methodLinkNest "LandMapModel$Rules" (138 : Nat) ({ cls := "LandMapModel$Laid", name := "grown", desc := "([II)[I" } : Jvm.MethodName) "LandMapModel") ∈ lw_tbl := lw_at lw_m15 82 rfl
theorem q3620 : (Jvm.Cond.static ({ cls := "LandMapModel$Laid", name := "grown", desc := "([II)[I" } : Jvm.MethodName)) ∈ lw_all := lw_g (lw_at lw_m15 83 rfl) rfl
theorem q3621 : (Jvm.Cond.code ({ cls := "LandMapModel$Laid", name := "grown", desc := "([II)[I" } : Jvm.MethodName) prog_31_method_18_code (2 : Nat) (Option.some (Jvm.ClassFile.FieldType.array Jvm.ClassFile.FieldType.int))) ∈ lw_all := lw_g (lw_at lw_m15 84 rfl) rfl
theorem q3622 : (Jvm.Cond.methodLinkNest "LandMapModel$Laid" (219 : Nat) ({ cls := "LandMapModel", name := "lengthFor", desc := "(I)I" } : Jvm.MethodName) "LandMapModel") ∈ lw_tbl := lw_at lw_m15 85 rfl
theorem q3623 : (Jvm.Cond.methodLinkNest "LandMapModel$Rules" (147 : Nat) ({ cls := "LandMapModel", name := "lengthFor", desc := "(I)I" } : Jvm.MethodName) "LandMapModel") ∈ lw_tbl := lw_at lw_m15 86 rfl
theorem q3624 : (Jvm.Cond.methodLink "LandMapModel$Rules" (86 : Nat) ({ cls := "LandMapModel$Rules", name := "parts", desc := "(LLandMapModel$Feature;)I" } : Jvm.MethodName)) ∈ lw_all := lw_g (lw_at lw_m15 87 rfl) rfl
theorem q3625 : (Jvm.Cond.privateMethod ({ cls := "LandMapModel$Rules", name := "parts", desc := "(LLandMapModel$Feature;)I" } : Jvm.MethodName)) ∈ lw_tbl := lw_at lw_m15 88 rfl
theorem q3626 : (Jvm.Cond.instanceMethod ({ cls := "LandMapModel$Rules", name := "parts", desc := "(LLandMapModel$Feature;)I" } : Jvm.MethodName)) ∈ lw_all := lw_g (lw_at lw_m15 89 rfl) rfl
theorem q3627 : (Jvm.Cond.code ({ cls := "LandMapModel$Rules", name := "parts", desc := "(LLandMapModel$Feature;)I" } : Jvm.MethodName) prog_38_method_7_code (4 : Nat) (Option.some Jvm.ClassFile.FieldType.int)) ∈ lw_all := lw_g (lw_at lw_m15 90 rfl) rfl
theorem q3628 : (Jvm.Cond.methodLink "LandMapModel$Rules" (153 : Nat) ({ cls := "LandMapModel$Steps", name := "times", desc := "(I[II)V" } : Jvm.MethodName)) ∈ lw_all := lw_g (lw_at lw_m15 91 rfl) rfl
theorem q3629 : (Jvm.Cond.instanceMethod ({ cls := "LandMapModel$Steps", name := "times", desc := "(I[II)V" } : Jvm.MethodName)) ∈ lw_all := lw_g (lw_at lw_m15 92 rfl) rfl
theorem q3630 : (Jvm.Cond.selects "LandMapModel$Steps" ({ cls := "LandMapModel$Steps", name := "times", desc := "(I[II)V" } : Jvm.MethodName) ({ cls := "LandMapModel$Steps", name := "times", desc := "(I[II)V" } : Jvm.MethodName)) ∈ lw_all := lw_g (lw_at lw_m15 93 rfl) rfl
theorem q3631 : (Jvm.Cond.code ({ cls := "LandMapModel$Steps", name := "times", desc := "(I[II)V" } : Jvm.MethodName) prog_41_method_7_code (5 : Nat) (Option.none : Option Jvm.ClassFile.FieldType)) ∈ lw_all := lw_g (lw_at lw_m15 94 rfl) rfl
theorem q3632 : (Jvm.Cond.methodLink "LandMapModel$Rules" (156 : Nat) ({ cls := "LandMapModel$Net", name := "cover", desc := "([I[Z)V" } : Jvm.MethodName)) ∈ lw_all := lw_g (lw_at lw_m15 95 rfl) rfl
theorem q3633 : (Jvm.Cond.instanceMethod ({ cls := "LandMapModel$Net", name := "cover", desc := "([I[Z)V" } : Jvm.MethodName)) ∈ lw_all := lw_g (lw_at lw_m15 96 rfl) rfl
theorem q3634 : (Jvm.Cond.selects "LandMapModel$Net" ({ cls := "LandMapModel$Net", name := "cover", desc := "([I[Z)V" } : Jvm.MethodName) ({ cls := "LandMapModel$Net", name := "cover", desc := "([I[Z)V" } : Jvm.MethodName)) ∈ lw_all := lw_g (lw_at lw_m15 97 rfl) rfl
theorem q3635 : (Jvm.Cond.code ({ cls := "LandMapModel$Net", name := "cover", desc := "([I[Z)V" } : Jvm.MethodName) prog_32_method_22_code (5 : Nat) (Option.none : Option Jvm.ClassFile.FieldType)) ∈ lw_all := lw_g (lw_at lw_m15 98 rfl) rfl
theorem q3636 : (Jvm.Cond.methodLink "LandMapModel$Rules" (160 : Nat) ({ cls := "LandMapModel$Rules", name := "isWhole", desc := "()Z" } : Jvm.MethodName)) ∈ lw_all := lw_g (lw_at lw_m15 99 rfl) rfl
theorem q3637 : (Jvm.Cond.privateMethod ({ cls := "LandMapModel$Rules", name := "isWhole", desc := "()Z" } : Jvm.MethodName)) ∈ lw_tbl := lw_at lw_m15 100 rfl
theorem q3638 : (Jvm.Cond.instanceMethod ({ cls := "LandMapModel$Rules", name := "isWhole", desc := "()Z" } : Jvm.MethodName)) ∈ lw_all := lw_g (lw_at lw_m15 101 rfl) rfl
theorem q3639 : (Jvm.Cond.code ({ cls := "LandMapModel$Rules", name := "isWhole", desc := "()Z" } : Jvm.MethodName) prog_38_method_9_code (6 : Nat) (Option.some Jvm.ClassFile.FieldType.boolean)) ∈ lw_all := lw_g (lw_at lw_m15 102 rfl) rfl
theorem q3640 : (Jvm.Cond.methodLink "LandMapModel$Rules" (164 : Nat) ({ cls := "LandMapModel$Rules", name := "isRest", desc := "(I)Z" } : Jvm.MethodName)) ∈ lw_all := lw_g (lw_at lw_m15 103 rfl) rfl
theorem q3641 : (Jvm.Cond.privateMethod ({ cls := "LandMapModel$Rules", name := "isRest", desc := "(I)Z" } : Jvm.MethodName)) ∈ lw_tbl := lw_at lw_m15 104 rfl
theorem q3642 : (Jvm.Cond.instanceMethod ({ cls := "LandMapModel$Rules", name := "isRest", desc := "(I)Z" } : Jvm.MethodName)) ∈ lw_all := lw_g (lw_at lw_m15 105 rfl) rfl
theorem q3643 : (Jvm.Cond.code ({ cls := "LandMapModel$Rules", name := "isRest", desc := "(I)Z" } : Jvm.MethodName) prog_38_method_8_code (2 : Nat) (Option.some Jvm.ClassFile.FieldType.boolean)) ∈ lw_all := lw_g (lw_at lw_m15 106 rfl) rfl
theorem q3644 : (Jvm.Cond.methodLink "LandMapModel$Rules" (168 : Nat) ({ cls := "LandMapModel$Net", name := "face", desc := "(I)I" } : Jvm.MethodName)) ∈ lw_all := lw_g (lw_at lw_m15 107 rfl) rfl
theorem q3645 : (Jvm.Cond.methodLink "LandMapModel" (223 : Nat) ({ cls := "LandMapModel$Feature", name := "places", desc := "()I" } : Jvm.MethodName)) ∈ lw_all := lw_g (lw_at lw_m15 108 rfl) rfl
theorem q3646 : (Jvm.Cond.instanceMethod ({ cls := "LandMapModel$Feature", name := "places", desc := "()I" } : Jvm.MethodName)) ∈ lw_all := lw_g (lw_at lw_m15 109 rfl) rfl
theorem q3647 : (Jvm.Cond.selects "LandMapModel$Feature" ({ cls := "LandMapModel$Feature", name := "places", desc := "()I" } : Jvm.MethodName) ({ cls := "LandMapModel$Feature", name := "places", desc := "()I" } : Jvm.MethodName)) ∈ lw_all := lw_g (lw_at lw_m15 110 rfl) rfl
theorem q3648 : (Jvm.Cond.code ({ cls := "LandMapModel$Feature", name := "places", desc := "()I" } : Jvm.MethodName) prog_28_method_5_code (3 : Nat) (Option.some Jvm.ClassFile.FieldType.int)) ∈ lw_all := lw_g (lw_at lw_m15 111 rfl) rfl
theorem q3649 : (Jvm.Cond.methodLink "LandMapModel$Feature" (20 : Nat) ({ cls := "LandMapModel$Feature", name := "length", desc := "(I)I" } : Jvm.MethodName)) ∈ lw_all := lw_g (lw_at lw_m15 112 rfl) rfl
theorem q3650 : (Jvm.Cond.constant "LandMapModel" (229 : Nat) (60000 : Int32)) ∈ lw_all := lw_g (lw_at lw_m15 113 rfl) rfl
theorem q3651 : (Jvm.Cond.methodLink "LandMapModel" (187 : Nat) ({ cls := "LandMapModel$State", name := "copy", desc := "(I)[LLandMapModel$Feature;" } : Jvm.MethodName)) ∈ lw_all := lw_g (lw_at lw_m15 114 rfl) rfl
theorem q3652 : (Jvm.Cond.instanceMethod ({ cls := "LandMapModel$State", name := "copy", desc := "(I)[LLandMapModel$Feature;" } : Jvm.MethodName)) ∈ lw_all := lw_g (lw_at lw_m15 115 rfl) rfl
theorem q3653 : (Jvm.Cond.selects "LandMapModel$State" ({ cls := "LandMapModel$State", name := "copy", desc := "(I)[LLandMapModel$Feature;" } : Jvm.MethodName) ({ cls := "LandMapModel$State", name := "copy", desc := "(I)[LLandMapModel$Feature;" } : Jvm.MethodName)) ∈ lw_all := lw_g (lw_at lw_m15 116 rfl) rfl
theorem q3654 : (Jvm.Cond.code ({ cls := "LandMapModel$State", name := "copy", desc := "(I)[LLandMapModel$Feature;" } : Jvm.MethodName) prog_40_method_3_code (4 : Nat) (Option.some (Jvm.ClassFile.FieldType.array (Jvm.ClassFile.FieldType.object "LandMapModel$Feature")))) ∈ lw_all := lw_g (lw_at lw_m15 117 rfl) rfl
theorem q3655 : (Jvm.Cond.classLink "LandMapModel$State" (24 : Nat) "LandMapModel$Feature") ∈ lw_all := lw_g (lw_at lw_m15 118 rfl) rfl
theorem q3656 : (Jvm.Cond.methodLink "LandMapModel" (191 : Nat) ({ cls := "LandMapModel$State", name := "but", desc := "(I[LLandMapModel$Feature;I)LLandMapModel$State;" } : Jvm.MethodName)) ∈ lw_all := lw_g (lw_at lw_m15 119 rfl) rfl
theorem q3657 : (Jvm.Cond.instanceMethod ({ cls := "LandMapModel$State", name := "but", desc := "(I[LLandMapModel$Feature;I)LLandMapModel$State;" } : Jvm.MethodName)) ∈ lw_all := lw_g (lw_at lw_m15 120 rfl) rfl
theorem q3658 : (Jvm.Cond.selects "LandMapModel$State" ({ cls := "LandMapModel$State", name := "but", desc := "(I[LLandMapModel$Feature;I)LLandMapModel$State;" } : Jvm.MethodName) ({ cls := "LandMapModel$State", name := "but", desc := "(I[LLandMapModel$Feature;I)LLandMapModel$State;" } : Jvm.MethodName)) ∈ lw_all := lw_g (lw_at lw_m15 121 rfl) rfl
theorem q3659 : (Jvm.Cond.code ({ cls := "LandMapModel$State", name := "but", desc := "(I[LLandMapModel$Feature;I)LLandMapModel$State;" } : Jvm.MethodName) prog_40_method_2_code (7 : Nat) (Option.some (Jvm.ClassFile.FieldType.object "LandMapModel$State"))) ∈ lw_all := lw_g (lw_at lw_m15 122 rfl) rfl
theorem q3660 : (Jvm.Cond.classLink "LandMapModel$State" (19 : Nat) "[LLandMapModel$Feature;") ∈ lw_all := lw_g (lw_at lw_m15 123 rfl) rfl
theorem q3661 : (Jvm.Cond.classLink "LandMapModel$State" (10 : Nat) "LandMapModel$State") ∈ lw_all := lw_g (lw_at lw_m15 124 rfl) rfl
theorem q3662 : (Jvm.Cond.methodLink "LandMapModel$State" (21 : Nat) ({ cls := "LandMapModel$State", name := "<init>", desc := "([[LLandMapModel$Feature;[I)V" } : Jvm.MethodName)) ∈ lw_all := lw_g (lw_at lw_m15 125 rfl) rfl
theorem q3663 : (Jvm.Cond.methodLink "LandMapModel" (195 : Nat) ({ cls := "LandMapModel", name := "become", desc := "(LLandMapModel$State;)V" } : Jvm.MethodName)) ∈ lw_all := lw_g (lw_at lw_m15 126 rfl) rfl
theorem q3664 : (Jvm.Cond.privateMethod ({ cls := "LandMapModel", name := "become", desc := "(LLandMapModel$State;)V" } : Jvm.MethodName)) ∈ lw_tbl := lw_at lw_m15 127 rfl
theorem q3665 : (Jvm.Cond.instanceMethod ({ cls := "LandMapModel", name := "become", desc := "(LLandMapModel$State;)V" } : Jvm.MethodName)) ∈ lw_all := lw_g (lw_at lw_m15 128 rfl) rfl
theorem q3666 : (Jvm.Cond.code ({ cls := "LandMapModel", name := "become", desc := "(LLandMapModel$State;)V" } : Jvm.MethodName) prog_26_method_18_code (3 : Nat) (Option.none : Option Jvm.ClassFile.FieldType)) ∈ lw_all := lw_g (lw_at lw_m15 129 rfl) rfl
theorem q3667 : (Jvm.Cond.methodLink "LandMapModel" (179 : Nat) ({ cls := "java/util/ArrayList", name := "remove", desc := "(I)Ljava/lang/Object;" } : Jvm.MethodName)) ∈ lw_all := lw_g (lw_at lw_m15 130 rfl) rfl
theorem q3668 : (Jvm.Cond.instanceMethod ({ cls := "java/util/ArrayList", name := "remove", desc := "(I)Ljava/lang/Object;" } : Jvm.MethodName)) ∈ lw_all := lw_g (lw_at lw_m15 131 rfl) rfl
theorem q3669 : (Jvm.Cond.selects "java/util/ArrayList" ({ cls := "java/util/ArrayList", name := "remove", desc := "(I)Ljava/lang/Object;" } : Jvm.MethodName) ({ cls := "java/util/ArrayList", name := "remove", desc := "(I)Ljava/lang/Object;" } : Jvm.MethodName)) ∈ lw_all := lw_g (lw_at lw_m15 132 rfl) rfl
theorem q3670 : (Jvm.Cond.code ({ cls := "java/util/ArrayList", name := "remove", desc := "(I)Ljava/lang/Object;" } : Jvm.MethodName) prog_70_method_29_code (4 : Nat) (Option.some (Jvm.ClassFile.FieldType.object "java/lang/Object"))) ∈ lw_all := lw_g (lw_at lw_m15 133 rfl) rfl
theorem q3671 : (Jvm.Cond.methodLink "java/util/ArrayList" (144 : Nat) ({ cls := "java/util/ArrayList", name := "fastRemove", desc := "([Ljava/lang/Object;I)V" } : Jvm.MethodName)) ∈ lw_all := lw_g (lw_at lw_m15 134 rfl) rfl
theorem q3672 : (Jvm.Cond.privateMethod ({ cls := "java/util/ArrayList", name := "fastRemove", desc := "([Ljava/lang/Object;I)V" } : Jvm.MethodName)) ∈ lw_tbl := lw_at lw_m15 135 rfl
theorem q3673 : (Jvm.Cond.instanceMethod ({ cls := "java/util/ArrayList", name := "fastRemove", desc := "([Ljava/lang/Object;I)V" } : Jvm.MethodName)) ∈ lw_all := lw_g (lw_at lw_m15 136 rfl) rfl
theorem q3674 : (Jvm.Cond.code ({ cls := "java/util/ArrayList", name := "fastRemove", desc := "([Ljava/lang/Object;I)V" } : Jvm.MethodName) prog_70_method_39_code (4 : Nat) (Option.none : Option Jvm.ClassFile.FieldType)) ∈ lw_all := lw_g (lw_at lw_m15 137 rfl) rfl
theorem q3675 : (Jvm.Cond.methodLink "java/util/ArrayList" (112 : Nat) ({ cls := "java/lang/System", name := "arraycopy", desc := "(Ljava/lang/Object;ILjava/lang/Object;II)V" } : Jvm.MethodName)) ∈ lw_all := lw_g (lw_at lw_m15 138 rfl) rfl
theorem q3676 : (Jvm.Cond.methodLink "LandMapModel" (183 : Nat) ({ cls := "java/util/ArrayList", name := "add", desc := "(Ljava/lang/Object;)Z" } : Jvm.MethodName)) ∈ lw_all := lw_g (lw_at lw_m15 139 rfl) rfl
theorem q3677 : (Jvm.Cond.methodLink "LandMapLaw" (32 : Nat) ({ cls := "LandMapModel", name := "place", desc := "()I" } : Jvm.MethodName)) ∈ lw_all := lw_g (lw_at lw_m15 140 rfl) rfl
theorem q3678 : (Jvm.Cond.instanceMethod ({ cls := "LandMapModel", name := "place", desc := "()I" } : Jvm.MethodName)) ∈ lw_all := lw_g (lw_at lw_m15 141 rfl) rfl
theorem q3679 : (Jvm.Cond.selects "LandMapModel" ({ cls := "LandMapModel", name := "place", desc := "()I" } : Jvm.MethodName) ({ cls := "LandMapModel", name := "place", desc := "()I" } : Jvm.MethodName)) ∈ lw_all := lw_g (lw_at lw_m15 142 rfl) rfl
theorem q3680 : (Jvm.Cond.code ({ cls := "LandMapModel", name := "place", desc := "()I" } : Jvm.MethodName) prog_26_method_21_code (1 : Nat) (Option.some Jvm.ClassFile.FieldType.int)) ∈ lw_all := lw_g (lw_at lw_m15 143 rfl) rfl
theorem q3681 : (Jvm.Cond.methodLink "LandMapLaw" (36 : Nat) ({ cls := "LandMapModel", name := "rule", desc := "()I" } : Jvm.MethodName)) ∈ lw_all := lw_g (lw_at lw_m15 144 rfl) rfl
theorem q3682 : (Jvm.Cond.instanceMethod ({ cls := "LandMapModel", name := "rule", desc := "()I" } : Jvm.MethodName)) ∈ lw_all := lw_g (lw_at lw_m15 145 rfl) rfl
theorem q3683 : (Jvm.Cond.selects "LandMapModel" ({ cls := "LandMapModel", name := "rule", desc := "()I" } : Jvm.MethodName) ({ cls := "LandMapModel", name := "rule", desc := "()I" } : Jvm.MethodName)) ∈ lw_all := lw_g (lw_at lw_m15 146 rfl) rfl
theorem q3684 : (Jvm.Cond.code ({ cls := "LandMapModel", name := "rule", desc := "()I" } : Jvm.MethodName) prog_26_method_22_code (1 : Nat) (Option.some Jvm.ClassFile.FieldType.int)) ∈ lw_all := lw_g (lw_at lw_m15 147 rfl) rfl
theorem q3685 : (Jvm.Cond.methodLink "LandMapLaw" (40 : Nat) ({ cls := "LandMapModel", name := "broken", desc := "()I" } : Jvm.MethodName)) ∈ lw_all := lw_g (lw_at lw_m15 148 rfl) rfl
theorem q3686 : (Jvm.Cond.instanceMethod ({ cls := "LandMapModel", name := "broken", desc := "()I" } : Jvm.MethodName)) ∈ lw_all := lw_g (lw_at lw_m15 149 rfl) rfl
theorem q3687 : (Jvm.Cond.selects "LandMapModel" ({ cls := "LandMapModel", name := "broken", desc := "()I" } : Jvm.MethodName) ({ cls := "LandMapModel", name := "broken", desc := "()I" } : Jvm.MethodName)) ∈ lw_all := lw_g (lw_at lw_m15 150 rfl) rfl
theorem q3688 : (Jvm.Cond.code ({ cls := "LandMapModel", name := "broken", desc := "()I" } : Jvm.MethodName) prog_26_method_23_code (1 : Nat) (Option.some Jvm.ClassFile.FieldType.int)) ∈ lw_all := lw_g (lw_at lw_m15 151 rfl) rfl
theorem q3689 : (Jvm.Cond.methodLink "LandMapLaw" (45 : Nat) ({ cls := "LandMapModel", name := "size", desc := "(II)I" } : Jvm.MethodName)) ∈ lw_all := lw_g (lw_at lw_m15 152 rfl) rfl
theorem q3690 : (Jvm.Cond.instanceMethod ({ cls := "LandMapModel", name := "size", desc := "(II)I" } : Jvm.MethodName)) ∈ lw_all := lw_g (lw_at lw_m15 153 rfl) rfl
theorem q3691 : (Jvm.Cond.selects "LandMapModel" ({ cls := "LandMapModel", name := "size", desc := "(II)I" } : Jvm.MethodName) ({ cls := "LandMapModel", name := "size", desc := "(II)I" } : Jvm.MethodName)) ∈ lw_all := lw_g (lw_at lw_m15 154 rfl) rfl
theorem q3692 : (Jvm.Cond.code ({ cls := "LandMapModel", name := "size", desc := "(II)I" } : Jvm.MethodName) prog_26_method_24_code (5 : Nat) (Option.some Jvm.ClassFile.FieldType.int)) ∈ lw_all := lw_g (lw_at lw_m15 155 rfl) rfl
theorem q3693 : (Jvm.Cond.methodLink "LandMapLaw" (50 : Nat) ({ cls := "LandMapModel", name := "feature", desc := "(III)I" } : Jvm.MethodName)) ∈ lw_all := lw_g (lw_at lw_m15 156 rfl) rfl
theorem q3694 : (Jvm.Cond.instanceMethod ({ cls := "LandMapModel", name := "feature", desc := "(III)I" } : Jvm.MethodName)) ∈ lw_all := lw_g (lw_at lw_m15 157 rfl) rfl
theorem q3695 : (Jvm.Cond.selects "LandMapModel" ({ cls := "LandMapModel", name := "feature", desc := "(III)I" } : Jvm.MethodName) ({ cls := "LandMapModel", name := "feature", desc := "(III)I" } : Jvm.MethodName)) ∈ lw_all := lw_g (lw_at lw_m15 158 rfl) rfl
theorem q3696 : (Jvm.Cond.code ({ cls := "LandMapModel", name := "feature", desc := "(III)I" } : Jvm.MethodName) prog_26_method_25_code (5 : Nat) (Option.some Jvm.ClassFile.FieldType.int)) ∈ lw_all := lw_g (lw_at lw_m15 159 rfl) rfl
theorem q3697 : (Jvm.Cond.methodLink "LandMapModel" (230 : Nat) ({ cls := "LandMapModel", name := "find", desc := "(II)LLandMapModel$Feature;" } : Jvm.MethodName)) ∈ lw_all := lw_g (lw_at lw_m15 160 rfl) rfl
theorem q3698 : (Jvm.Cond.privateMethod ({ cls := "LandMapModel", name := "find", desc := "(II)LLandMapModel$Feature;" } : Jvm.MethodName)) ∈ lw_tbl := lw_at lw_m15 161 rfl
theorem q3699 : (Jvm.Cond.instanceMethod ({ cls := "LandMapModel", name := "find", desc := "(II)LLandMapModel$Feature;" } : Jvm.MethodName)) ∈ lw_all := lw_g (lw_at lw_m15 162 rfl) rfl
theorem q3700 : (Jvm.Cond.code ({ cls := "LandMapModel", name := "find", desc := "(II)LLandMapModel$Feature;" } : Jvm.MethodName) prog_26_method_17_code (3 : Nat) (Option.some (Jvm.ClassFile.FieldType.object "LandMapModel$Feature"))) ∈ lw_all := lw_g (lw_at lw_m15 163 rfl) rfl
theorem q3701 : (Jvm.Cond.constant "LandMapModel" (234 : Nat) (-1000000014 : Int32)) ∈ lw_all := lw_g (lw_at lw_m15 164 rfl) rfl
theorem q3702 : (Jvm.Cond.methodLink "LandMapLaw" (54 : Nat) ({ cls := "LandMapModel", name := "at", desc := "(IIIII)I" } : Jvm.MethodName)) ∈ lw_all := lw_g (lw_at lw_m15 165 rfl) rfl
theorem q3703 : (Jvm.Cond.instanceMethod ({ cls := "LandMapModel", name := "at", desc := "(IIIII)I" } : Jvm.MethodName)) ∈ lw_all := lw_g (lw_at lw_m15 166 rfl) rfl
theorem q3704 : (Jvm.Cond.selects "LandMapModel" ({ cls := "LandMapModel", name := "at", desc := "(IIIII)I" } : Jvm.MethodName) ({ cls := "LandMapModel", name := "at", desc := "(IIIII)I" } : Jvm.MethodName)) ∈ lw_all := lw_g (lw_at lw_m15 167 rfl) rfl
theorem q3705 : (Jvm.Cond.code ({ cls := "LandMapModel", name := "at", desc := "(IIIII)I" } : Jvm.MethodName) prog_26_method_26_code (7 : Nat) (Option.some Jvm.ClassFile.FieldType.int)) ∈ lw_all := lw_g (lw_at lw_m15 168 rfl) rfl
theorem q3706 : (Jvm.Cond.methodLink "LandMapModel" (245 : Nat) ({ cls := "LandMapModel$Feature", name := "length", desc := "(I)I" } : Jvm.MethodName)) ∈ lw_all := lw_g (lw_at lw_m15 169 rfl) rfl
theorem q3707 : (Jvm.Cond.constant "LandMapModel" (249 : Nat) (1000000 : Int32)) ∈ lw_all := lw_g (lw_at lw_m15 170 rfl) rfl
theorem q3708 : (Jvm.Cond.methodLink "LandMapModel" (250 : Nat) ({ cls := "LandMapModel$Feature", name := "x", desc := "(II)I" } : Jvm.MethodName)) ∈ lw_all := lw_g (lw_at lw_m15 171 rfl) rfl
theorem q3709 : (Jvm.Cond.methodLink "LandMapModel" (253 : Nat) ({ cls := "LandMapModel$Feature", name := "y", desc := "(II)I" } : Jvm.MethodName)) ∈ lw_all := lw_g (lw_at lw_m15 172 rfl) rfl
theorem q3710 : (Jvm.Cond.methodLink "LandMapLaw" (59 : Nat) ({ cls := "LandMapModel", name := "area2", desc := "(II)J" } : Jvm.MethodName)) ∈ lw_all := lw_g (lw_at lw_m15 173 rfl) rfl
theorem q3711 : (Jvm.Cond.instanceMethod ({ cls := "LandMapModel", name := "area2", desc := "(II)J" } : Jvm.MethodName)) ∈ lw_all := lw_g (lw_at lw_m15 174 rfl) rfl
theorem q3712 : (Jvm.Cond.selects "LandMapModel" ({ cls := "LandMapModel", name := "area2", desc := "(II)J" } : Jvm.MethodName) ({ cls := "LandMapModel", name := "area2", desc := "(II)J" } : Jvm.MethodName)) ∈ lw_all := lw_g (lw_at lw_m15 175 rfl) rfl
theorem q3713 : (Jvm.Cond.code ({ cls := "LandMapModel", name := "area2", desc := "(II)J" } : Jvm.MethodName) prog_26_method_27_code (7 : Nat) (Option.some Jvm.ClassFile.FieldType.long)) ∈ lw_all := lw_g (lw_at lw_m15 176 rfl) rfl
theorem q3714 : (Jvm.Cond.methodLink "LandMapModel" (256 : Nat) ({ cls := "LandMapModel$Feature", name := "area2", desc := "(I)J" } : Jvm.MethodName)) ∈ lw_all := lw_g (lw_at lw_m15 177 rfl) rfl
theorem q3715 : (Jvm.Cond.instanceMethod ({ cls := "LandMapModel$Feature", name := "area2", desc := "(I)J" } : Jvm.MethodName)) ∈ lw_all := lw_g (lw_at lw_m15 178 rfl) rfl
theorem q3716 : (Jvm.Cond.selects "LandMapModel$Feature" ({ cls := "LandMapModel$Feature", name := "area2", desc := "(I)J" } : Jvm.MethodName) ({ cls := "LandMapModel$Feature", name := "area2", desc := "(I)J" } : Jvm.MethodName)) ∈ lw_all := lw_g (lw_at lw_m15 179 rfl) rfl
theorem q3717 : (Jvm.Cond.code ({ cls := "LandMapModel$Feature", name := "area2", desc := "(I)J" } : Jvm.MethodName) prog_28_method_6_code (5 : Nat) (Option.some Jvm.ClassFile.FieldType.long)) ∈ lw_all := lw_g (lw_at lw_m15 180 rfl) rfl
theorem q3718 : (Jvm.Cond.methodLink "LandMapModel$Feature" (24 : Nat) ({ cls := "LandMapModel$Feature", name := "x", desc := "(II)I" } : Jvm.MethodName)) ∈ lw_all := lw_g (lw_at lw_m15 181 rfl) rfl
theorem q3719 : (Jvm.Cond.methodLink "LandMapModel$Feature" (28 : Nat) ({ cls := "LandMapModel$Feature", name := "y", desc := "(II)I" } : Jvm.MethodName)) ∈ lw_all := lw_g (lw_at lw_m15 182 rfl) rfl
theorem q3720 : (Jvm.Cond.methodLink "LandMapModel" (260 : Nat) ({ cls := "java/lang/Math", name := "abs", desc := "(J)J" } : Jvm.MethodName)) ∈ lw_all := lw_g (lw_at lw_m15 183 rfl) rfl
theorem q3721 : (Jvm.Cond.methodLink "LandMapLaw" (63 : Nat) ({ cls := "LandMapModel", name := "length", desc := "(II)J" } : Jvm.MethodName)) ∈ lw_all := lw_g (lw_at lw_m15 184 rfl) rfl
theorem q3722 : (Jvm.Cond.instanceMethod ({ cls := "LandMapModel", name := "length", desc := "(II)J" } : Jvm.MethodName)) ∈ lw_all := lw_g (lw_at lw_m15 185 rfl) rfl
theorem q3723 : (Jvm.Cond.selects "LandMapModel" ({ cls := "LandMapModel", name := "length", desc := "(II)J" } : Jvm.MethodName) ({ cls := "LandMapModel", name := "length", desc := "(II)J" } : Jvm.MethodName)) ∈ lw_all := lw_g (lw_at lw_m15 186 rfl) rfl
theorem q3724 : (Jvm.Cond.code ({ cls := "LandMapModel", name := "length", desc := "(II)J" } : Jvm.MethodName) prog_26_method_28_code (8 : Nat) (Option.some Jvm.ClassFile.FieldType.long)) ∈ lw_all := lw_g (lw_at lw_m15 187 rfl) rfl
theorem q3725 : (Jvm.Cond.constantLong "LandMapModel" (263 : Nat) (-14 : Int64)) ∈ lw_all := lw_g (lw_at lw_m15 188 rfl) rfl
theorem q3726 : (Jvm.Cond.methodLink "LandMapModel" (265 : Nat) ({ cls := "LandMapModel", name := "lengthOf", desc := "(JJ)J" } : Jvm.MethodName)) ∈ lw_all := lw_g (lw_at lw_m15 189 rfl) rfl
theorem q3727 : (Jvm.Cond.static ({ cls := "LandMapModel", name := "lengthOf", desc := "(JJ)J" } : Jvm.MethodName)) ∈ lw_all := lw_g (lw_at lw_m15 190 rfl) rfl
theorem q3728 : (Jvm.Cond.code ({ cls := "LandMapModel", name := "lengthOf", desc := "(JJ)J" } : Jvm.MethodName) prog_26_method_3_code (4 : Nat) (Option.some Jvm.ClassFile.FieldType.long)) ∈ lw_all := lw_g (lw_at lw_m15 191 rfl) rfl
theorem q3729 : (Jvm.Cond.methodLink "LandMapModel" (11 : Nat) ({ cls := "LandMapModel", name := "root", desc := "(J)J" } : Jvm.MethodName)) ∈ lw_all := lw_g (lw_at lw_m15 192 rfl) rfl
theorem q3730 : (Jvm.Cond.static ({ cls := "LandMapModel", name := "root", desc := "(J)J" } : Jvm.MethodName)) ∈ lw_all := lw_g (lw_at lw_m15 193 rfl) rfl
theorem q3731 : (Jvm.Cond.code ({ cls := "LandMapModel", name := "root", desc := "(J)J" } : Jvm.MethodName) prog_26_method_2_code (6 : Nat) (Option.some Jvm.ClassFile.FieldType.long)) ∈ lw_all := lw_g (lw_at lw_m15 194 rfl) rfl
theorem q3732 : (Jvm.Cond.constantLong "LandMapModel" (9 : Nat) (2147483648 : Int64)) ∈ lw_all := lw_g (lw_at lw_m15 195 rfl) rfl
theorem q3733 : (Jvm.Cond.methodLink "LandMapLaw" (67 : Nat) ({ cls := "LandMapModel", name := "spot", desc := "(II)I" } : Jvm.MethodName)) ∈ lw_all := lw_g (lw_at lw_m15 196 rfl) rfl
theorem q3734 : (Jvm.Cond.instanceMethod ({ cls := "LandMapModel", name := "spot", desc := "(II)I" } : Jvm.MethodName)) ∈ lw_all := lw_g (lw_at lw_m15 197 rfl) rfl
theorem q3735 : (Jvm.Cond.selects "LandMapModel" ({ cls := "LandMapModel", name := "spot", desc := "(II)I" } : Jvm.MethodName) ({ cls := "LandMapModel", name := "spot", desc := "(II)I" } : Jvm.MethodName)) ∈ lw_all := lw_g (lw_at lw_m15 198 rfl) rfl
theorem q3736 : (Jvm.Cond.code ({ cls := "LandMapModel", name := "spot", desc := "(II)I" } : Jvm.MethodName) prog_26_method_29_code (3 : Nat) (Option.some Jvm.ClassFile.FieldType.int)) ∈ lw_all := lw_g (lw_at lw_m15 199 rfl) rfl
theorem q3737 : (Jvm.Cond.constant "LandMapModel" (271 : Nat) (-500000 : Int32)) ∈ lw_all := lw_g (lw_at lw_m15 200 rfl) rfl
theorem q3738 : (Jvm.Cond.constant "LandMapModel" (272 : Nat) (500000 : Int32)) ∈ lw_all := lw_g (lw_at lw_m15 201 rfl) rfl
theorem q3739 : (Jvm.Cond.methodLink "LandMapLaw" (72 : Nat) ({ cls := "LandMapModel", name := "move", desc := "(IIII)I" } : Jvm.MethodName)) ∈ lw_all := lw_g (lw_at lw_m15 202 rfl) rfl
theorem q3740 : (Jvm.Cond.instanceMethod ({ cls := "LandMapModel", name := "move", desc := "(IIII)I" } : Jvm.MethodName)) ∈ lw_all := lw_g (lw_at lw_m15 203 rfl) rfl
theorem q3741 : (Jvm.Cond.selects "LandMapModel" ({ cls := "LandMapModel", name := "move", desc := "(IIII)I" } : Jvm.MethodName) ({ cls := "LandMapModel", name := "move", desc := "(IIII)I" } : Jvm.MethodName)) ∈ lw_all := lw_g (lw_at lw_m15 204 rfl) rfl
theorem q3742 : (Jvm.Cond.code ({ cls := "LandMapModel", name := "move", desc := "(IIII)I" } : Jvm.MethodName) prog_26_method_31_code (12 : Nat) (Option.some Jvm.ClassFile.FieldType.int)) ∈ lw_all := lw_g (lw_at lw_m15 205 rfl) rfl
theorem q3743 : (Jvm.Cond.methodLink "LandMapModel" (273 : Nat) ({ cls := "LandMapModel", name := "usedSpots", desc := "()I" } : Jvm.MethodName)) ∈ lw_all := lw_g (lw_at lw_m15 206 rfl) rfl
theorem q3744 : (Jvm.Cond.privateMethod ({ cls := "LandMapModel", name := "usedSpots", desc := "()I" } : Jvm.MethodName)) ∈ lw_tbl := lw_at lw_m15 207 rfl
theorem q3745 : (Jvm.Cond.instanceMethod ({ cls := "LandMapModel", name := "usedSpots", desc := "()I" } : Jvm.MethodName)) ∈ lw_all := lw_g (lw_at lw_m15 208 rfl) rfl
theorem q3746 : (Jvm.Cond.code ({ cls := "LandMapModel", name := "usedSpots", desc := "()I" } : Jvm.MethodName) prog_26_method_30_code (2 : Nat) (Option.some Jvm.ClassFile.FieldType.int)) ∈ lw_all := lw_g (lw_at lw_m15 209 rfl) rfl
theorem q3747 : (Jvm.Cond.methodLink "LandMapModel" (276 : Nat) ({ cls := "LandMapModel", name := "put", desc := "(LLandMapModel$Feature;IIII)V" } : Jvm.MethodName)) ∈ lw_all := lw_g (lw_at lw_m15 210 rfl) rfl
theorem q3748 : (Jvm.Cond.static ({ cls := "LandMapModel", name := "put", desc := "(LLandMapModel$Feature;IIII)V" } : Jvm.MethodName)) ∈ lw_all := lw_g (lw_at lw_m15 211 rfl) rfl
theorem q3749 : (Jvm.Cond.code ({ cls := "LandMapModel", name := "put", desc := "(LLandMapModel$Feature;IIII)V" } : Jvm.MethodName) prog_26_method_32_code (8 : Nat) (Option.none : Option Jvm.ClassFile.FieldType)) ∈ lw_all := lw_g (lw_at lw_m15 212 rfl) rfl
theorem q3750 : (Jvm.Cond.classLink "LandMapModel" (280 : Nat) "[I") ∈ lw_all := lw_g (lw_at lw_m15 213 rfl) rfl
theorem q3751 : (Jvm.Cond.methodLink "LandMapModel" (281 : Nat) ({ cls := "LandMapModel$Feature", name := "<init>", desc := "(II[[I)V" } : Jvm.MethodName)) ∈ lw_all := lw_g (lw_at lw_m15 214 rfl) rfl
theorem q3752 : (Jvm.Cond.methodLink "LandMapModel" (284 : Nat) ({ cls := "LandMapModel", name := "replace", desc := "(IILLandMapModel$Feature;)V" } : Jvm.MethodName)) ∈ lw_all := lw_g (lw_at lw_m15 215 rfl) rfl
theorem q3753 : (Jvm.Cond.privateMethod ({ cls := "LandMapModel", name := "replace", desc := "(IILLandMapModel$Feature;)V" } : Jvm.MethodName)) ∈ lw_tbl := lw_at lw_m15 216 rfl
theorem q3754 : (Jvm.Cond.instanceMethod ({ cls := "LandMapModel", name := "replace", desc := "(IILLandMapModel$Feature;)V" } : Jvm.MethodName)) ∈ lw_all := lw_g (lw_at lw_m15 217 rfl) rfl
theorem q3755 : (Jvm.Cond.code ({ cls := "LandMapModel", name := "replace", desc := "(IILLandMapModel$Feature;)V" } : Jvm.MethodName) prog_26_method_19_code (5 : Nat) (Option.none : Option Jvm.ClassFile.FieldType)) ∈ lw_all := lw_g (lw_at lw_m15 218 rfl) rfl
theorem q3756 : (Jvm.Cond.methodLink "LandMapLaw" (76 : Nat) ({ cls := "LandMapModel", name := "drop", desc := "(II)I" } : Jvm.MethodName)) ∈ lw_all := lw_g (lw_at lw_m15 219 rfl) rfl
theorem q3757 : (Jvm.Cond.instanceMethod ({ cls := "LandMapModel", name := "drop", desc := "(II)I" } : Jvm.MethodName)) ∈ lw_all := lw_g (lw_at lw_m15 220 rfl) rfl
theorem q3758 : (Jvm.Cond.selects "LandMapModel" ({ cls := "LandMapModel", name := "drop", desc := "(II)I" } : Jvm.MethodName) ({ cls := "LandMapModel", name := "drop", desc := "(II)I" } : Jvm.MethodName)) ∈ lw_all := lw_g (lw_at lw_m15 221 rfl) rfl
theorem q3759 : (Jvm.Cond.code ({ cls := "LandMapModel", name := "drop", desc := "(II)I" } : Jvm.MethodName) prog_26_method_33_code (3 : Nat) (Option.some Jvm.ClassFile.FieldType.int)) ∈ lw_all := lw_g (lw_at lw_m15 222 rfl) rfl
theorem q3760 : (Jvm.Cond.methodLink "LandMapLaw" (80 : Nat) ({ cls := "LandMapModel", name := "revalue", desc := "(III)I" } : Jvm.MethodName)) ∈ lw_all := lw_g (lw_at lw_m15 223 rfl) rfl
theorem q3761 : (Jvm.Cond.instanceMethod ({ cls := "LandMapModel", name := "revalue", desc := "(III)I" } : Jvm.MethodName)) ∈ lw_all := lw_g (lw_at lw_m15 224 rfl) rfl
theorem q3762 : (Jvm.Cond.selects "LandMapModel" ({ cls := "LandMapModel", name := "revalue", desc := "(III)I" } : Jvm.MethodName) ({ cls := "LandMapModel", name := "revalue", desc := "(III)I" } : Jvm.MethodName)) ∈ lw_all := lw_g (lw_at lw_m15 225 rfl) rfl
theorem q3763 : (Jvm.Cond.code ({ cls := "LandMapModel", name := "revalue", desc := "(III)I" } : Jvm.MethodName) prog_26_method_34_code (5 : Nat) (Option.some Jvm.ClassFile.FieldType.int)) ∈ lw_all := lw_g (lw_at lw_m15 226 rfl) rfl
theorem q3764 : (Jvm.Cond.methodLink "LandMapLaw" (84 : Nat) ({ cls := "LandMapModel", name := "undo", desc := "()I" } : Jvm.MethodName)) ∈ lw_all := lw_g (lw_at lw_m15 227 rfl) rfl
theorem q3765 : (Jvm.Cond.instanceMethod ({ cls := "LandMapModel", name := "undo", desc := "()I" } : Jvm.MethodName)) ∈ lw_all := lw_g (lw_at lw_m15 228 rfl) rfl
theorem q3766 : (Jvm.Cond.selects "LandMapModel" ({ cls := "LandMapModel", name := "undo", desc := "()I" } : Jvm.MethodName) ({ cls := "LandMapModel", name := "undo", desc := "()I" } : Jvm.MethodName)) ∈ lw_all := lw_g (lw_at lw_m15 229 rfl) rfl
theorem q3767 : (Jvm.Cond.code ({ cls := "LandMapModel", name := "undo", desc := "()I" } : Jvm.MethodName) prog_26_method_35_code (1 : Nat) (Option.some Jvm.ClassFile.FieldType.int)) ∈ lw_all := lw_g (lw_at lw_m15 230 rfl) rfl
theorem q3768 : (Jvm.Cond.methodLink "LandMapLaw" (88 : Nat) ({ cls := "LandMapModel", name := "lay", desc := "(II)I" } : Jvm.MethodName)) ∈ lw_all := lw_g (lw_at lw_m15 231 rfl) rfl
theorem q3769 : (Jvm.Cond.instanceMethod ({ cls := "LandMapModel", name := "lay", desc := "(II)I" } : Jvm.MethodName)) ∈ lw_all := lw_g (lw_at lw_m15 232 rfl) rfl
theorem q3770 : (Jvm.Cond.selects "LandMapModel" ({ cls := "LandMapModel", name := "lay", desc := "(II)I" } : Jvm.MethodName) ({ cls := "LandMapModel", name := "lay", desc := "(II)I" } : Jvm.MethodName)) ∈ lw_all := lw_g (lw_at lw_m15 233 rfl) rfl
theorem q3771 : (Jvm.Cond.code ({ cls := "LandMapModel", name := "lay", desc := "(II)I" } : Jvm.MethodName) prog_26_method_37_code (4 : Nat) (Option.some Jvm.ClassFile.FieldType.int)) ∈ lw_all := lw_g (lw_at lw_m15 234 rfl) rfl
theorem q3772 : (Jvm.Cond.methodLink "LandMapModel" (291 : Nat) ({ cls := "LandMapModel$Laid", name := "clear", desc := "()V" } : Jvm.MethodName)) ∈ lw_all := lw_g (lw_at lw_m15 235 rfl) rfl
theorem q3773 : (Jvm.Cond.instanceMethod ({ cls := "LandMapModel$Laid", name := "clear", desc := "()V" } : Jvm.MethodName)) ∈ lw_all := lw_g (lw_at lw_m15 236 rfl) rfl
theorem q3774 : (Jvm.Cond.selects "LandMapModel$Laid" ({ cls := "LandMapModel$Laid", name := "clear", desc := "()V" } : Jvm.MethodName) ({ cls := "LandMapModel$Laid", name := "clear", desc := "()V" } : Jvm.MethodName)) ∈ lw_all := lw_g (lw_at lw_m15 237 rfl) rfl
theorem q3775 : (Jvm.Cond.code ({ cls := "LandMapModel$Laid", name := "clear", desc := "()V" } : Jvm.MethodName) prog_31_method_2_code (1 : Nat) (Option.none : Option Jvm.ClassFile.FieldType)) ∈ lw_all := lw_g (lw_at lw_m15 238 rfl) rfl
theorem q3776 : (Jvm.Cond.methodLink "LandMapModel" (294 : Nat) ({ cls := "LandMapModel", name := "gather", desc := "(IZ)V" } : Jvm.MethodName)) ∈ lw_all := lw_g (lw_at lw_m15 239 rfl) rfl
theorem q3777 : (Jvm.Cond.privateMethod ({ cls := "LandMapModel", name := "gather", desc := "(IZ)V" } : Jvm.MethodName)) ∈ lw_tbl := lw_at lw_m16 0 rfl
theorem q3778 : (Jvm.Cond.instanceMethod ({ cls := "LandMapModel", name := "gather", desc := "(IZ)V" } : Jvm.MethodName)) ∈ lw_all := lw_g (lw_at lw_m16 1 rfl) rfl
theorem q3779 : (Jvm.Cond.code ({ cls := "LandMapModel", name := "gather", desc := "(IZ)V" } : Jvm.MethodName) prog_26_method_36_code (4 : Nat) (Option.none : Option Jvm.ClassFile.FieldType)) ∈ lw_all := lw_g (lw_at lw_m16 2 rfl) rfl
theorem q3780 : (Jvm.Cond.methodLink "LandMapModel" (288 : Nat) ({ cls := "LandMapModel$Laid", name := "add", desc := "(LLandMapModel$Feature;IZ)V" } : Jvm.MethodName)) ∈ lw_all := lw_g (lw_at lw_m16 3 rfl) rfl
theorem q3781 : (Jvm.Cond.instanceMethod ({ cls := "LandMapModel$Laid", name := "add", desc := "(LLandMapModel$Feature;IZ)V" } : Jvm.MethodName)) ∈ lw_all := lw_g (lw_at lw_m16 4 rfl) rfl
theorem q3782 : (Jvm.Cond.selects "LandMapModel$Laid" ({ cls := "LandMapModel$Laid", name := "add", desc := "(LLandMapModel$Feature;IZ)V" } : Jvm.MethodName) ({ cls := "LandMapModel$Laid", name := "add", desc := "(LLandMapModel$Feature;IZ)V" } : Jvm.MethodName)) ∈ lw_all := lw_g (lw_at lw_m16 5 rfl) rfl
theorem q3783 : (Jvm.Cond.code ({ cls := "LandMapModel$Laid", name := "add", desc := "(LLandMapModel$Feature;IZ)V" } : Jvm.MethodName) prog_31_method_3_code (4 : Nat) (Option.none : Option Jvm.ClassFile.FieldType)) ∈ lw_all := lw_g (lw_at lw_m16 6 rfl) rfl
theorem q3784 : (Jvm.Cond.methodLink "LandMapModel" (298 : Nat) ({ cls := "LandMapModel$Laid", name := "lay", desc := "()Z" } : Jvm.MethodName)) ∈ lw_all := lw_g (lw_at lw_m16 7 rfl) rfl
theorem q3785 : (Jvm.Cond.instanceMethod ({ cls := "LandMapModel$Laid", name := "lay", desc := "()Z" } : Jvm.MethodName)) ∈ lw_all := lw_g (lw_at lw_m16 8 rfl) rfl
theorem q3786 : (Jvm.Cond.selects "LandMapModel$Laid" ({ cls := "LandMapModel$Laid", name := "lay", desc := "()Z" } : Jvm.MethodName) ({ cls := "LandMapModel$Laid", name := "lay", desc := "()Z" } : Jvm.MethodName)) ∈ lw_all := lw_g (lw_at lw_m16 9 rfl) rfl
theorem q3787 : (Jvm.Cond.code ({ cls := "LandMapModel$Laid", name := "lay", desc := "()Z" } : Jvm.MethodName) prog_31_method_4_code (2 : Nat) (Option.some Jvm.ClassFile.FieldType.boolean)) ∈ lw_all := lw_g (lw_at lw_m16 10 rfl) rfl
theorem q3788 : (Jvm.Cond.methodLink "LandMapModel$Laid" (80 : Nat) ({ cls := "LandMapModel$Places", name := "clear", desc := "()V" } : Jvm.MethodName)) ∈ lw_all := lw_g (lw_at lw_m16 11 rfl) rfl
theorem q3789 : (Jvm.Cond.methodLink "LandMapModel$Laid" (83 : Nat) ({ cls := "LandMapModel$Ints", name := "clear", desc := "()V" } : Jvm.MethodName)) ∈ lw_all := lw_g (lw_at lw_m16 12 rfl) rfl
theorem q3790 : (Jvm.Cond.methodLink "LandMapModel$Laid" (84 : Nat) ({ cls := "LandMapModel$Steps", name := "clear", desc := "()V" } : Jvm.MethodName)) ∈ lw_all := lw_g (lw_at lw_m16 13 rfl) rfl
theorem q3791 : (Jvm.Cond.methodLink "LandMapModel$Laid" (85 : Nat) ({ cls := "LandMapModel$Laid", name := "gather", desc := "(I)Z" } : Jvm.MethodName)) ∈ lw_all := lw_g (lw_at lw_m16 14 rfl) rfl
theorem q3792 : (Jvm.Cond.privateMethod ({ cls := "LandMapModel$Laid", name := "gather", desc := "(I)Z" } : Jvm.MethodName)) ∈ lw_tbl := lw_at lw_m16 15 rfl
theorem q3793 : (Jvm.Cond.instanceMethod ({ cls := "LandMapModel$Laid", name := "gather", desc := "(I)Z" } : Jvm.MethodName)) ∈ lw_all := lw_g (lw_at lw_m16 16 rfl) rfl
theorem q3794 : (Jvm.Cond.code ({ cls := "LandMapModel$Laid", name := "gather", desc := "(I)Z" } : Jvm.MethodName) prog_31_method_5_code (6 : Nat) (Option.some Jvm.ClassFile.FieldType.boolean)) ∈ lw_all := lw_g (lw_at lw_m16 17 rfl) rfl
theorem q3795 : (Jvm.Cond.methodLink "LandMapModel$Laid" (113 : Nat) ({ cls := "LandMapModel$Feature", name := "length", desc := "(I)I" } : Jvm.MethodName)) ∈ lw_all := lw_g (lw_at lw_m16 18 rfl) rfl
theorem q3796 : (Jvm.Cond.methodLink "LandMapModel$Laid" (117 : Nat) ({ cls := "LandMapModel$Feature", name := "x", desc := "(II)I" } : Jvm.MethodName)) ∈ lw_all := lw_g (lw_at lw_m16 19 rfl) rfl
theorem q3797 : (Jvm.Cond.methodLink "LandMapModel$Laid" (121 : Nat) ({ cls := "LandMapModel$Feature", name := "y", desc := "(II)I" } : Jvm.MethodName)) ∈ lw_all := lw_g (lw_at lw_m16 20 rfl) rfl
theorem q3798 : (Jvm.Cond.methodLink "LandMapModel$Laid" (124 : Nat) ({ cls := "LandMapModel$Places", name := "add", desc := "(II)V" } : Jvm.MethodName)) ∈ lw_all := lw_g (lw_at lw_m16 21 rfl) rfl
theorem q3799 : (Jvm.Cond.methodLink "LandMapModel$Laid" (128 : Nat) ({ cls := "LandMapModel$Ints", name := "add", desc := "(I)V" } : Jvm.MethodName)) ∈ lw_all := lw_g (lw_at lw_m16 22 rfl) rfl
theorem q3800 : (Jvm.Cond.methodLink "LandMapModel$Laid" (89 : Nat) ({ cls := "LandMapModel$Laid", name := "crossings", desc := "()Z" } : Jvm.MethodName)) ∈ lw_all := lw_g (lw_at lw_m16 23 rfl) rfl
theorem q3801 : (Jvm.Cond.privateMethod ({ cls := "LandMapModel$Laid", name := "crossings", desc := "()Z" } : Jvm.MethodName)) ∈ lw_tbl := lw_at lw_m16 24 rfl
theorem q3802 : (Jvm.Cond.instanceMethod ({ cls := "LandMapModel$Laid", name := "crossings", desc := "()Z" } : Jvm.MethodName)) ∈ lw_all := lw_g (lw_at lw_m16 25 rfl) rfl
theorem q3803 : (Jvm.Cond.code ({ cls := "LandMapModel$Laid", name := "crossings", desc := "()Z" } : Jvm.MethodName) prog_31_method_7_code (3 : Nat) (Option.some Jvm.ClassFile.FieldType.boolean)) ∈ lw_all := lw_g (lw_at lw_m16 26 rfl) rfl
theorem q3804 : (Jvm.Cond.methodLink "LandMapModel$Laid" (136 : Nat) ({ cls := "LandMapModel$Places", name := "sort", desc := "()V" } : Jvm.MethodName)) ∈ lw_all := lw_g (lw_at lw_m16 27 rfl) rfl
theorem q3805 : (Jvm.Cond.methodLink "LandMapModel$Laid" (138 : Nat) ({ cls := "LandMapModel$Laid", name := "areFar", desc := "(III)Z" } : Jvm.MethodName)) ∈ lw_all := lw_g (lw_at lw_m16 28 rfl) rfl
theorem q3806 : (Jvm.Cond.privateMethod ({ cls := "LandMapModel$Laid", name := "areFar", desc := "(III)Z" } : Jvm.MethodName)) ∈ lw_tbl := lw_at lw_m16 29 rfl
theorem q3807 : (Jvm.Cond.instanceMethod ({ cls := "LandMapModel$Laid", name := "areFar", desc := "(III)Z" } : Jvm.MethodName)) ∈ lw_all := lw_g (lw_at lw_m16 30 rfl) rfl
theorem q3808 : (Jvm.Cond.code ({ cls := "LandMapModel$Laid", name := "areFar", desc := "(III)Z" } : Jvm.MethodName) prog_31_method_8_code (4 : Nat) (Option.some Jvm.ClassFile.FieldType.boolean)) ∈ lw_all := lw_g (lw_at lw_m16 31 rfl) rfl
theorem q3809 : (Jvm.Cond.methodLink "LandMapModel$Laid" (142 : Nat) ({ cls := "LandMapModel$Laid", name := "end", desc := "(II)J" } : Jvm.MethodName)) ∈ lw_all := lw_g (lw_at lw_m16 32 rfl) rfl
theorem q3810 : (Jvm.Cond.privateMethod ({ cls := "LandMapModel$Laid", name := "end", desc := "(II)J" } : Jvm.MethodName)) ∈ lw_tbl := lw_at lw_m16 33 rfl
theorem q3811 : (Jvm.Cond.instanceMethod ({ cls := "LandMapModel$Laid", name := "end", desc := "(II)J" } : Jvm.MethodName)) ∈ lw_all := lw_g (lw_at lw_m16 34 rfl) rfl
theorem q3812 : (Jvm.Cond.code ({ cls := "LandMapModel$Laid", name := "end", desc := "(II)J" } : Jvm.MethodName) prog_31_method_6_code (3 : Nat) (Option.some Jvm.ClassFile.FieldType.long)) ∈ lw_all := lw_g (lw_at lw_m16 35 rfl) rfl
theorem q3813 : (Jvm.Cond.methodLink "LandMapModel$Laid" (154 : Nat) ({ cls := "java/lang/Math", name := "max", desc := "(JJ)J" } : Jvm.MethodName)) ∈ lw_all := lw_g (lw_at lw_m16 36 rfl) rfl
theorem q3814 : (Jvm.Cond.methodLink "LandMapModel$Laid" (160 : Nat) ({ cls := "java/lang/Math", name := "min", desc := "(JJ)J" } : Jvm.MethodName)) ∈ lw_all := lw_g (lw_at lw_m16 37 rfl) rfl
theorem q3815 : (Jvm.Cond.methodLinkNest "LandMapModel$Laid" (146 : Nat) ({ cls := "LandMapModel", name := "meeting", desc := "(JJJJJJJJ)I" } : Jvm.MethodName) "LandMapModel") ∈ lw_tbl := lw_at lw_m16 38 rfl
theorem q3816 : (Jvm.Cond.methodLink "LandMapModel$Laid" (150 : Nat) ({ cls := "LandMapModel$Laid", name := "cross", desc := "(II)V" } : Jvm.MethodName)) ∈ lw_all := lw_g (lw_at lw_m16 39 rfl) rfl
theorem q3817 : (Jvm.Cond.privateMethod ({ cls := "LandMapModel$Laid", name := "cross", desc := "(II)V" } : Jvm.MethodName)) ∈ lw_tbl := lw_at lw_m16 40 rfl
theorem q3818 : (Jvm.Cond.instanceMethod ({ cls := "LandMapModel$Laid", name := "cross", desc := "(II)V" } : Jvm.MethodName)) ∈ lw_all := lw_g (lw_at lw_m16 41 rfl) rfl
theorem q3819 : (Jvm.Cond.code ({ cls := "LandMapModel$Laid", name := "cross", desc := "(II)V" } : Jvm.MethodName) prog_31_method_9_code (19 : Nat) (Option.none : Option Jvm.ClassFile.FieldType)) ∈ lw_all := lw_g (lw_at lw_m16 42 rfl) rfl
theorem q3820 : (Jvm.Cond.constantLong "LandMapModel$Laid" (163 : Nat) (2 : Int64)) ∈ lw_all := lw_g (lw_at lw_m16 43 rfl) rfl
theorem q3821 : (Jvm.Cond.methodLinkNest "LandMapModel$Laid" (165 : Nat) ({ cls := "LandMapModel", name := "below", desc := "(JJ)J" } : Jvm.MethodName) "LandMapModel") ∈ lw_tbl := lw_at lw_m16 44 rfl
theorem q3822 : (Jvm.Cond.static ({ cls := "LandMapModel", name := "below", desc := "(JJ)J" } : Jvm.MethodName)) ∈ lw_all := lw_g (lw_at lw_m16 45 rfl) rfl
theorem q3823 : (Jvm.Cond.code ({ cls := "LandMapModel", name := "below", desc := "(JJ)J" } : Jvm.MethodName) prog_26_method_10_code (6 : Nat) (Option.some Jvm.ClassFile.FieldType.long)) ∈ lw_all := lw_g (lw_at lw_m16 46 rfl) rfl
theorem q3824 : (Jvm.Cond.methodLink "LandMapModel$Laid" (93 : Nat) ({ cls := "LandMapModel$Laid", name := "bend", desc := "()Z" } : Jvm.MethodName)) ∈ lw_all := lw_g (lw_at lw_m16 47 rfl) rfl
theorem q3825 : (Jvm.Cond.privateMethod ({ cls := "LandMapModel$Laid", name := "bend", desc := "()Z" } : Jvm.MethodName)) ∈ lw_tbl := lw_at lw_m16 48 rfl
theorem q3826 : (Jvm.Cond.instanceMethod ({ cls := "LandMapModel$Laid", name := "bend", desc := "()Z" } : Jvm.MethodName)) ∈ lw_all := lw_g (lw_at lw_m16 49 rfl) rfl
theorem q3827 : (Jvm.Cond.code ({ cls := "LandMapModel$Laid", name := "bend", desc := "()Z" } : Jvm.MethodName) prog_31_method_15_code (11 : Nat) (Option.some Jvm.ClassFile.FieldType.boolean)) ∈ lw_all := lw_g (lw_at lw_m16 50 rfl) rfl
theorem q3828 : (Jvm.Cond.methodLink "LandMapModel$Laid" (203 : Nat) ({ cls := "LandMapModel$Laid", name := "firstFrom", desc := "(I)I" } : Jvm.MethodName)) ∈ lw_all := lw_g (lw_at lw_m16 51 rfl) rfl
theorem q3829 : (Jvm.Cond.privateMethod ({ cls := "LandMapModel$Laid", name := "firstFrom", desc := "(I)I" } : Jvm.MethodName)) ∈ lw_tbl := lw_at lw_m16 52 rfl
theorem q3830 : (Jvm.Cond.instanceMethod ({ cls := "LandMapModel$Laid", name := "firstFrom", desc := "(I)I" } : Jvm.MethodName)) ∈ lw_all := lw_g (lw_at lw_m16 53 rfl) rfl
theorem q3831 : (Jvm.Cond.code ({ cls := "LandMapModel$Laid", name := "firstFrom", desc := "(I)I" } : Jvm.MethodName) prog_31_method_16_code (5 : Nat) (Option.some Jvm.ClassFile.FieldType.int)) ∈ lw_all := lw_g (lw_at lw_m16 54 rfl) rfl
theorem q3832 : (Jvm.Cond.methodLink "LandMapModel$Laid" (195 : Nat) ({ cls := "LandMapModel$Places", name := "x", desc := "(I)I" } : Jvm.MethodName)) ∈ lw_all := lw_g (lw_at lw_m16 55 rfl) rfl
theorem q3833 : (Jvm.Cond.methodLink "LandMapModel$Laid" (197 : Nat) ({ cls := "LandMapModel$Places", name := "y", desc := "(I)I" } : Jvm.MethodName)) ∈ lw_all := lw_g (lw_at lw_m16 56 rfl) rfl
theorem q3834 : (Jvm.Cond.methodLink "LandMapModel$Laid" (206 : Nat) ({ cls := "LandMapModel$Laid", name := "isThrough", desc := "(II)Z" } : Jvm.MethodName)) ∈ lw_all := lw_g (lw_at lw_m16 57 rfl) rfl
theorem q3835 : (Jvm.Cond.privateMethod ({ cls := "LandMapModel$Laid", name := "isThrough", desc := "(II)Z" } : Jvm.MethodName)) ∈ lw_tbl := lw_at lw_m16 58 rfl
theorem q3836 : (Jvm.Cond.instanceMethod ({ cls := "LandMapModel$Laid", name := "isThrough", desc := "(II)Z" } : Jvm.MethodName)) ∈ lw_all := lw_g (lw_at lw_m16 59 rfl) rfl
theorem q3837 : (Jvm.Cond.code ({ cls := "LandMapModel$Laid", name := "isThrough", desc := "(II)Z" } : Jvm.MethodName) prog_31_method_13_code (9 : Nat) (Option.some Jvm.ClassFile.FieldType.boolean)) ∈ lw_all := lw_g (lw_at lw_m16 60 rfl) rfl
theorem q3838 : (Jvm.Cond.methodLink "LandMapModel$Laid" (199 : Nat) ({ cls := "LandMapModel$Laid", name := "within", desc := "(JJJJ)Z" } : Jvm.MethodName)) ∈ lw_all := lw_g (lw_at lw_m16 61 rfl) rfl
theorem q3839 : (Jvm.Cond.privateMethod ({ cls := "LandMapModel$Laid", name := "within", desc := "(JJJJ)Z" } : Jvm.MethodName)) ∈ lw_tbl := lw_at lw_m16 62 rfl
theorem q3840 : (Jvm.Cond.instanceMethod ({ cls := "LandMapModel$Laid", name := "within", desc := "(JJJJ)Z" } : Jvm.MethodName)) ∈ lw_all := lw_g (lw_at lw_m16 63 rfl) rfl
theorem q3841 : (Jvm.Cond.code ({ cls := "LandMapModel$Laid", name := "within", desc := "(JJJJ)Z" } : Jvm.MethodName) prog_31_method_12_code (9 : Nat) (Option.some Jvm.ClassFile.FieldType.boolean)) ∈ lw_all := lw_g (lw_at lw_m16 64 rfl) rfl
theorem q3842 : (Jvm.Cond.methodLink "LandMapModel$Laid" (188 : Nat) ({ cls := "LandMapModel$Laid", name := "atLeast", desc := "(JJZ)V" } : Jvm.MethodName)) ∈ lw_all := lw_g (lw_at lw_m16 65 rfl) rfl
theorem q3843 : (Jvm.Cond.privateMethod ({ cls := "LandMapModel$Laid", name := "atLeast", desc := "(JJZ)V" } : Jvm.MethodName)) ∈ lw_tbl := lw_at lw_m16 66 rfl
theorem q3844 : (Jvm.Cond.instanceMethod ({ cls := "LandMapModel$Laid", name := "atLeast", desc := "(JJZ)V" } : Jvm.MethodName)) ∈ lw_all := lw_g (lw_at lw_m16 67 rfl) rfl
theorem q3845 : (Jvm.Cond.code ({ cls := "LandMapModel$Laid", name := "atLeast", desc := "(JJZ)V" } : Jvm.MethodName) prog_31_method_10_code (8 : Nat) (Option.none : Option Jvm.ClassFile.FieldType)) ∈ lw_all := lw_g (lw_at lw_m16 68 rfl) rfl
theorem q3846 : (Jvm.Cond.methodLink "LandMapModel$Laid" (192 : Nat) ({ cls := "LandMapModel$Laid", name := "atMost", desc := "(JJZ)V" } : Jvm.MethodName)) ∈ lw_all := lw_g (lw_at lw_m16 69 rfl) rfl
theorem q3847 : (Jvm.Cond.privateMethod ({ cls := "LandMapModel$Laid", name := "atMost", desc := "(JJZ)V" } : Jvm.MethodName)) ∈ lw_tbl := lw_at lw_m16 70 rfl
theorem q3848 : (Jvm.Cond.instanceMethod ({ cls := "LandMapModel$Laid", name := "atMost", desc := "(JJZ)V" } : Jvm.MethodName)) ∈ lw_all := lw_g (lw_at lw_m16 71 rfl) rfl
theorem q3849 : (Jvm.Cond.code ({ cls := "LandMapModel$Laid", name := "atMost", desc := "(JJZ)V" } : Jvm.MethodName) prog_31_method_11_code (8 : Nat) (Option.none : Option Jvm.ClassFile.FieldType)) ∈ lw_all := lw_g (lw_at lw_m16 72 rfl) rfl
theorem q3850 : (Jvm.Cond.methodLink "LandMapModel$Laid" (210 : Nat) ({ cls := "LandMapModel$Laid", name := "insert", desc := "(II)V" } : Jvm.MethodName)) ∈ lw_all := lw_g (lw_at lw_m16 73 rfl) rfl
theorem q3851 : (Jvm.Cond.privateMethod ({ cls := "LandMapModel$Laid", name := "insert", desc := "(II)V" } : Jvm.MethodName)) ∈ lw_tbl := lw_at lw_m16 74 rfl
theorem q3852 : (Jvm.Cond.instanceMethod ({ cls := "LandMapModel$Laid", name := "insert", desc := "(II)V" } : Jvm.MethodName)) ∈ lw_all := lw_g (lw_at lw_m16 75 rfl) rfl
theorem q3853 : (Jvm.Cond.code ({ cls := "LandMapModel$Laid", name := "insert", desc := "(II)V" } : Jvm.MethodName) prog_31_method_17_code (4 : Nat) (Option.none : Option Jvm.ClassFile.FieldType)) ∈ lw_all := lw_g (lw_at lw_m16 76 rfl) rfl
theorem q3854 : (Jvm.Cond.methodLink "LandMapModel$Laid" (216 : Nat) ({ cls := "LandMapModel$Laid", name := "projection", desc := "(II)J" } : Jvm.MethodName)) ∈ lw_all := lw_g (lw_at lw_m16 77 rfl) rfl
theorem q3855 : (Jvm.Cond.privateMethod ({ cls := "LandMapModel$Laid", name := "projection", desc := "(II)J" } : Jvm.MethodName)) ∈ lw_tbl := lw_at lw_m16 78 rfl
theorem q3856 : (Jvm.Cond.instanceMethod ({ cls := "LandMapModel$Laid", name := "projection", desc := "(II)J" } : Jvm.MethodName)) ∈ lw_all := lw_g (lw_at lw_m16 79 rfl) rfl
theorem q3857 : (Jvm.Cond.code ({ cls := "LandMapModel$Laid", name := "projection", desc := "(II)J" } : Jvm.MethodName) prog_31_method_14_code (3 : Nat) (Option.some Jvm.ClassFile.FieldType.long)) ∈ lw_all := lw_g (lw_at lw_m16 80 rfl) rfl
theorem q3858 : (Jvm.Cond.methodLink "LandMapModel$Laid" (213 : Nat) ({ cls := "LandMapModel$Steps", name := "add", desc := "(III)V" } : Jvm.MethodName)) ∈ lw_all := lw_g (lw_at lw_m16 81 rfl) rfl
theorem q3859 : (Jvm.Cond.methodLink "LandMapModel$Laid" (96 : Nat) ({ cls := "LandMapModel$Steps", name := "size", desc := "()I" } : Jvm.MethodName)) ∈ lw_all := lw_g (lw_at lw_m16 82 rfl) rfl
theorem q3860 : (Jvm.Cond.methodLink "LandMapModel$Laid" (100 : Nat) ({ cls := "LandMapModel$Steps", name := "sort", desc := "()I" } : Jvm.MethodName)) ∈ lw_all := lw_g (lw_at lw_m16 83 rfl) rfl
theorem q3861 : (Jvm.Cond.methodLink "LandMapModel$Laid" (103 : Nat) ({ cls := "LandMapModel$Steps", name := "into", desc := "(LLandMapModel$Net;LLandMapModel$Places;)V" } : Jvm.MethodName)) ∈ lw_all := lw_g (lw_at lw_m16 84 rfl) rfl
theorem q3862 : (Jvm.Cond.methodLink "LandMapModel$Laid" (107 : Nat) ({ cls := "LandMapModel$Laid", name := "tell", desc := "()V" } : Jvm.MethodName)) ∈ lw_all := lw_g (lw_at lw_m16 85 rfl) rfl
theorem q3863 : (Jvm.Cond.privateMethod ({ cls := "LandMapModel$Laid", name := "tell", desc := "()V" } : Jvm.MethodName)) ∈ lw_tbl := lw_at lw_m16 86 rfl
theorem q3864 : (Jvm.Cond.instanceMethod ({ cls := "LandMapModel$Laid", name := "tell", desc := "()V" } : Jvm.MethodName)) ∈ lw_all := lw_g (lw_at lw_m16 87 rfl) rfl
theorem q3865 : (Jvm.Cond.code ({ cls := "LandMapModel$Laid", name := "tell", desc := "()V" } : Jvm.MethodName) prog_31_method_19_code (5 : Nat) (Option.none : Option Jvm.ClassFile.FieldType)) ∈ lw_all := lw_g (lw_at lw_m16 88 rfl) rfl
theorem q3866 : (Jvm.Cond.methodLink "LandMapModel$Laid" (225 : Nat) ({ cls := "LandMapModel$Laid", name := "grown", desc := "([II)[I" } : Jvm.MethodName)) ∈ lw_all := lw_g (lw_at lw_m16 89 rfl) rfl
theorem q3867 : (Jvm.Cond.methodLink "LandMapModel$Laid" (241 : Nat) ({ cls := "LandMapModel$Laid", name := "cover", desc := "(I[Z)V" } : Jvm.MethodName)) ∈ lw_all := lw_g (lw_at lw_m16 90 rfl) rfl
theorem q3868 : (Jvm.Cond.instanceMethod ({ cls := "LandMapModel$Laid", name := "cover", desc := "(I[Z)V" } : Jvm.MethodName)) ∈ lw_all := lw_g (lw_at lw_m16 91 rfl) rfl
theorem q3869 : (Jvm.Cond.selects "LandMapModel$Laid" ({ cls := "LandMapModel$Laid", name := "cover", desc := "(I[Z)V" } : Jvm.MethodName) ({ cls := "LandMapModel$Laid", name := "cover", desc := "(I[Z)V" } : Jvm.MethodName)) ∈ lw_all := lw_g (lw_at lw_m16 92 rfl) rfl
theorem q3870 : (Jvm.Cond.code ({ cls := "LandMapModel$Laid", name := "cover", desc := "(I[Z)V" } : Jvm.MethodName) prog_31_method_20_code (3 : Nat) (Option.none : Option Jvm.ClassFile.FieldType)) ∈ lw_all := lw_g (lw_at lw_m16 93 rfl) rfl
theorem q3871 : (Jvm.Cond.methodLink "LandMapModel$Laid" (245 : Nat) ({ cls := "LandMapModel$Steps", name := "times", desc := "(I[II)V" } : Jvm.MethodName)) ∈ lw_all := lw_g (lw_at lw_m16 94 rfl) rfl
theorem q3872 : (Jvm.Cond.methodLink "LandMapModel$Laid" (248 : Nat) ({ cls := "LandMapModel$Net", name := "cover", desc := "([I[Z)V" } : Jvm.MethodName)) ∈ lw_all := lw_g (lw_at lw_m16 95 rfl) rfl
theorem q3873 : (Jvm.Cond.methodLink "LandMapModel" (306 : Nat) ({ cls := "LandMapModel$Ints", name := "clear", desc := "()V" } : Jvm.MethodName)) ∈ lw_all := lw_g (lw_at lw_m16 96 rfl) rfl
theorem q3874 : (Jvm.Cond.methodLink "LandMapLaw" (92 : Nat) ({ cls := "LandMapModel", name := "laid", desc := "(I)I" } : Jvm.MethodName)) ∈ lw_all := lw_g (lw_at lw_m16 97 rfl) rfl
theorem q3875 : (Jvm.Cond.instanceMethod ({ cls := "LandMapModel", name := "laid", desc := "(I)I" } : Jvm.MethodName)) ∈ lw_all := lw_g (lw_at lw_m16 98 rfl) rfl
theorem q3876 : (Jvm.Cond.selects "LandMapModel" ({ cls := "LandMapModel", name := "laid", desc := "(I)I" } : Jvm.MethodName) ({ cls := "LandMapModel", name := "laid", desc := "(I)I" } : Jvm.MethodName)) ∈ lw_all := lw_g (lw_at lw_m16 99 rfl) rfl
theorem q3877 : (Jvm.Cond.code ({ cls := "LandMapModel", name := "laid", desc := "(I)I" } : Jvm.MethodName) prog_26_method_38_code (4 : Nat) (Option.some Jvm.ClassFile.FieldType.int)) ∈ lw_all := lw_g (lw_at lw_m16 100 rfl) rfl
theorem q3878 : (Jvm.Cond.methodLink "LandMapLaw" (96 : Nat) ({ cls := "LandMapModel", name := "node", desc := "(II)I" } : Jvm.MethodName)) ∈ lw_all := lw_g (lw_at lw_m16 101 rfl) rfl
theorem q3879 : (Jvm.Cond.instanceMethod ({ cls := "LandMapModel", name := "node", desc := "(II)I" } : Jvm.MethodName)) ∈ lw_all := lw_g (lw_at lw_m16 102 rfl) rfl
theorem q3880 : (Jvm.Cond.selects "LandMapModel" ({ cls := "LandMapModel", name := "node", desc := "(II)I" } : Jvm.MethodName) ({ cls := "LandMapModel", name := "node", desc := "(II)I" } : Jvm.MethodName)) ∈ lw_all := lw_g (lw_at lw_m16 103 rfl) rfl
theorem q3881 : (Jvm.Cond.code ({ cls := "LandMapModel", name := "node", desc := "(II)I" } : Jvm.MethodName) prog_26_method_39_code (3 : Nat) (Option.some Jvm.ClassFile.FieldType.int)) ∈ lw_all := lw_g (lw_at lw_m16 104 rfl) rfl
theorem q3882 : (Jvm.Cond.methodLink "LandMapModel" (337 : Nat) ({ cls := "LandMapModel$Net", name := "degree", desc := "(I)I" } : Jvm.MethodName)) ∈ lw_all := lw_g (lw_at lw_m16 105 rfl) rfl
theorem q3883 : (Jvm.Cond.instanceMethod ({ cls := "LandMapModel$Net", name := "degree", desc := "(I)I" } : Jvm.MethodName)) ∈ lw_all := lw_g (lw_at lw_m16 106 rfl) rfl
theorem q3884 : (Jvm.Cond.selects "LandMapModel$Net" ({ cls := "LandMapModel$Net", name := "degree", desc := "(I)I" } : Jvm.MethodName) ({ cls := "LandMapModel$Net", name := "degree", desc := "(I)I" } : Jvm.MethodName)) ∈ lw_all := lw_g (lw_at lw_m16 107 rfl) rfl
theorem q3885 : (Jvm.Cond.code ({ cls := "LandMapModel$Net", name := "degree", desc := "(I)I" } : Jvm.MethodName) prog_32_method_8_code (2 : Nat) (Option.some Jvm.ClassFile.FieldType.int)) ∈ lw_all := lw_g (lw_at lw_m16 108 rfl) rfl
theorem q3886 : (Jvm.Cond.methodLink "LandMapLaw" (100 : Nat) ({ cls := "LandMapModel", name := "piece", desc := "(II)I" } : Jvm.MethodName)) ∈ lw_all := lw_g (lw_at lw_m16 109 rfl) rfl
theorem q3887 : (Jvm.Cond.instanceMethod ({ cls := "LandMapModel", name := "piece", desc := "(II)I" } : Jvm.MethodName)) ∈ lw_all := lw_g (lw_at lw_m16 110 rfl) rfl
theorem q3888 : (Jvm.Cond.selects "LandMapModel" ({ cls := "LandMapModel", name := "piece", desc := "(II)I" } : Jvm.MethodName) ({ cls := "LandMapModel", name := "piece", desc := "(II)I" } : Jvm.MethodName)) ∈ lw_all := lw_g (lw_at lw_m16 111 rfl) rfl
theorem q3889 : (Jvm.Cond.code ({ cls := "LandMapModel", name := "piece", desc := "(II)I" } : Jvm.MethodName) prog_26_method_40_code (3 : Nat) (Option.some Jvm.ClassFile.FieldType.int)) ∈ lw_all := lw_g (lw_at lw_m16 112 rfl) rfl
theorem q3890 : (Jvm.Cond.methodLink "LandMapModel" (346 : Nat) ({ cls := "LandMapModel$Net", name := "face", desc := "(I)I" } : Jvm.MethodName)) ∈ lw_all := lw_g (lw_at lw_m16 113 rfl) rfl
theorem q3891 : (Jvm.Cond.methodLink "LandMapLaw" (104 : Nat) ({ cls := "LandMapModel", name := "face", desc := "(II)I" } : Jvm.MethodName)) ∈ lw_all := lw_g (lw_at lw_m16 114 rfl) rfl
theorem q3892 : (Jvm.Cond.instanceMethod ({ cls := "LandMapModel", name := "face", desc := "(II)I" } : Jvm.MethodName)) ∈ lw_all := lw_g (lw_at lw_m16 115 rfl) rfl
theorem q3893 : (Jvm.Cond.selects "LandMapModel" ({ cls := "LandMapModel", name := "face", desc := "(II)I" } : Jvm.MethodName) ({ cls := "LandMapModel", name := "face", desc := "(II)I" } : Jvm.MethodName)) ∈ lw_all := lw_g (lw_at lw_m16 116 rfl) rfl
theorem q3894 : (Jvm.Cond.code ({ cls := "LandMapModel", name := "face", desc := "(II)I" } : Jvm.MethodName) prog_26_method_42_code (5 : Nat) (Option.some Jvm.ClassFile.FieldType.int)) ∈ lw_all := lw_g (lw_at lw_m16 117 rfl) rfl
theorem q3895 : (Jvm.Cond.methodLink "LandMapModel" (352 : Nat) ({ cls := "LandMapModel$Net", name := "ringsOf", desc := "(I)I" } : Jvm.MethodName)) ∈ lw_all := lw_g (lw_at lw_m16 118 rfl) rfl
theorem q3896 : (Jvm.Cond.instanceMethod ({ cls := "LandMapModel$Net", name := "ringsOf", desc := "(I)I" } : Jvm.MethodName)) ∈ lw_all := lw_g (lw_at lw_m16 119 rfl) rfl
theorem q3897 : (Jvm.Cond.selects "LandMapModel$Net" ({ cls := "LandMapModel$Net", name := "ringsOf", desc := "(I)I" } : Jvm.MethodName) ({ cls := "LandMapModel$Net", name := "ringsOf", desc := "(I)I" } : Jvm.MethodName)) ∈ lw_all := lw_g (lw_at lw_m16 120 rfl) rfl
theorem q3898 : (Jvm.Cond.code ({ cls := "LandMapModel$Net", name := "ringsOf", desc := "(I)I" } : Jvm.MethodName) prog_32_method_23_code (4 : Nat) (Option.some Jvm.ClassFile.FieldType.int)) ∈ lw_all := lw_g (lw_at lw_m16 121 rfl) rfl
theorem q3899 : (Jvm.Cond.methodLink "LandMapModel" (360 : Nat) ({ cls := "LandMapModel", name := "numberOf", desc := "(I)I" } : Jvm.MethodName)) ∈ lw_all := lw_g (lw_at lw_m16 122 rfl) rfl
theorem q3900 : (Jvm.Cond.privateMethod ({ cls := "LandMapModel", name := "numberOf", desc := "(I)I" } : Jvm.MethodName)) ∈ lw_tbl := lw_at lw_m16 123 rfl
theorem q3901 : (Jvm.Cond.instanceMethod ({ cls := "LandMapModel", name := "numberOf", desc := "(I)I" } : Jvm.MethodName)) ∈ lw_all := lw_g (lw_at lw_m16 124 rfl) rfl
theorem q3902 : (Jvm.Cond.code ({ cls := "LandMapModel", name := "numberOf", desc := "(I)I" } : Jvm.MethodName) prog_26_method_41_code (2 : Nat) (Option.some Jvm.ClassFile.FieldType.int)) ∈ lw_all := lw_g (lw_at lw_m16 125 rfl) rfl
theorem q3903 : (Jvm.Cond.methodLink "LandMapLaw" (109 : Nat) ({ cls := "LandMapModel", name := "faceArea2", desc := "(I)J" } : Jvm.MethodName)) ∈ lw_all := lw_g (lw_at lw_m16 126 rfl) rfl
theorem q3904 : (Jvm.Cond.instanceMethod ({ cls := "LandMapModel", name := "faceArea2", desc := "(I)J" } : Jvm.MethodName)) ∈ lw_all := lw_g (lw_at lw_m16 127 rfl) rfl
theorem q3905 : (Jvm.Cond.selects "LandMapModel" ({ cls := "LandMapModel", name := "faceArea2", desc := "(I)J" } : Jvm.MethodName) ({ cls := "LandMapModel", name := "faceArea2", desc := "(I)J" } : Jvm.MethodName)) ∈ lw_all := lw_g (lw_at lw_m16 128 rfl) rfl
theorem q3906 : (Jvm.Cond.code ({ cls := "LandMapModel", name := "faceArea2", desc := "(I)J" } : Jvm.MethodName) prog_26_method_43_code (2 : Nat) (Option.some Jvm.ClassFile.FieldType.long)) ∈ lw_all := lw_g (lw_at lw_m16 129 rfl) rfl
theorem q3907 : (Jvm.Cond.methodLink "LandMapModel" (363 : Nat) ({ cls := "LandMapModel$Net", name := "areaOf", desc := "(I)J" } : Jvm.MethodName)) ∈ lw_all := lw_g (lw_at lw_m16 130 rfl) rfl
theorem q3908 : (Jvm.Cond.instanceMethod ({ cls := "LandMapModel$Net", name := "areaOf", desc := "(I)J" } : Jvm.MethodName)) ∈ lw_all := lw_g (lw_at lw_m16 131 rfl) rfl
theorem q3909 : (Jvm.Cond.selects "LandMapModel$Net" ({ cls := "LandMapModel$Net", name := "areaOf", desc := "(I)J" } : Jvm.MethodName) ({ cls := "LandMapModel$Net", name := "areaOf", desc := "(I)J" } : Jvm.MethodName)) ∈ lw_all := lw_g (lw_at lw_m16 132 rfl) rfl
theorem q3910 : (Jvm.Cond.code ({ cls := "LandMapModel$Net", name := "areaOf", desc := "(I)J" } : Jvm.MethodName) prog_32_method_24_code (5 : Nat) (Option.some Jvm.ClassFile.FieldType.long)) ∈ lw_all := lw_g (lw_at lw_m16 133 rfl) rfl
theorem q3911 : (Jvm.Cond.methodLink "LandMapLaw" (113 : Nat) ({ cls := "LandMapModel", name := "locate", desc := "(II)I" } : Jvm.MethodName)) ∈ lw_all := lw_g (lw_at lw_m16 134 rfl) rfl
theorem q3912 : (Jvm.Cond.instanceMethod ({ cls := "LandMapModel", name := "locate", desc := "(II)I" } : Jvm.MethodName)) ∈ lw_all := lw_g (lw_at lw_m16 135 rfl) rfl
theorem q3913 : (Jvm.Cond.selects "LandMapModel" ({ cls := "LandMapModel", name := "locate", desc := "(II)I" } : Jvm.MethodName) ({ cls := "LandMapModel", name := "locate", desc := "(II)I" } : Jvm.MethodName)) ∈ lw_all := lw_g (lw_at lw_m16 136 rfl) rfl
theorem q3914 : (Jvm.Cond.code ({ cls := "LandMapModel", name := "locate", desc := "(II)I" } : Jvm.MethodName) prog_26_method_44_code (3 : Nat) (Option.some Jvm.ClassFile.FieldType.int)) ∈ lw_all := lw_g (lw_at lw_m16 137 rfl) rfl
theorem q3915 : (Jvm.Cond.methodLink "LandMapModel" (366 : Nat) ({ cls := "LandMapModel$Laid", name := "locate", desc := "(JJ)I" } : Jvm.MethodName)) ∈ lw_all := lw_g (lw_at lw_m16 138 rfl) rfl
theorem q3916 : (Jvm.Cond.instanceMethod ({ cls := "LandMapModel$Laid", name := "locate", desc := "(JJ)I" } : Jvm.MethodName)) ∈ lw_all := lw_g (lw_at lw_m16 139 rfl) rfl
theorem q3917 : (Jvm.Cond.selects "LandMapModel$Laid" ({ cls := "LandMapModel$Laid", name := "locate", desc := "(JJ)I" } : Jvm.MethodName) ({ cls := "LandMapModel$Laid", name := "locate", desc := "(JJ)I" } : Jvm.MethodName)) ∈ lw_all := lw_g (lw_at lw_m16 140 rfl) rfl
theorem q3918 : (Jvm.Cond.code ({ cls := "LandMapModel$Laid", name := "locate", desc := "(JJ)I" } : Jvm.MethodName) prog_31_method_23_code (6 : Nat) (Option.some Jvm.ClassFile.FieldType.int)) ∈ lw_all := lw_g (lw_at lw_m16 141 rfl) rfl
theorem q3919 : (Jvm.Cond.methodLink "LandMapModel$Laid" (269 : Nat) ({ cls := "LandMapModel$Laid", name := "pieceAt", desc := "(JJ)I" } : Jvm.MethodName)) ∈ lw_all := lw_g (lw_at lw_m16 142 rfl) rfl
theorem q3920 : (Jvm.Cond.instanceMethod ({ cls := "LandMapModel$Laid", name := "pieceAt", desc := "(JJ)I" } : Jvm.MethodName)) ∈ lw_all := lw_g (lw_at lw_m16 143 rfl) rfl
theorem q3921 : (Jvm.Cond.selects "LandMapModel$Laid" ({ cls := "LandMapModel$Laid", name := "pieceAt", desc := "(JJ)I" } : Jvm.MethodName) ({ cls := "LandMapModel$Laid", name := "pieceAt", desc := "(JJ)I" } : Jvm.MethodName)) ∈ lw_all := lw_g (lw_at lw_m16 144 rfl) rfl
theorem q3922 : (Jvm.Cond.code ({ cls := "LandMapModel$Laid", name := "pieceAt", desc := "(JJ)I" } : Jvm.MethodName) prog_31_method_21_code (6 : Nat) (Option.some Jvm.ClassFile.FieldType.int)) ∈ lw_all := lw_g (lw_at lw_m16 145 rfl) rfl
theorem q3923 : (Jvm.Cond.methodLinkNest "LandMapModel$Laid" (261 : Nat) ({ cls := "LandMapModel", name := "isOn", desc := "(JJJJJJ)Z" } : Jvm.MethodName) "LandMapModel") ∈ lw_tbl := lw_at lw_m16 146 rfl
theorem q3924 : (Jvm.Cond.methodLink "LandMapModel$Laid" (273 : Nat) ({ cls := "LandMapModel$Laid", name := "faceAt", desc := "(JJ)I" } : Jvm.MethodName)) ∈ lw_all := lw_g (lw_at lw_m16 147 rfl) rfl
theorem q3925 : (Jvm.Cond.instanceMethod ({ cls := "LandMapModel$Laid", name := "faceAt", desc := "(JJ)I" } : Jvm.MethodName)) ∈ lw_all := lw_g (lw_at lw_m16 148 rfl) rfl
theorem q3926 : (Jvm.Cond.selects "LandMapModel$Laid" ({ cls := "LandMapModel$Laid", name := "faceAt", desc := "(JJ)I" } : Jvm.MethodName) ({ cls := "LandMapModel$Laid", name := "faceAt", desc := "(JJ)I" } : Jvm.MethodName)) ∈ lw_all := lw_g (lw_at lw_m16 149 rfl) rfl
theorem q3927 : (Jvm.Cond.code ({ cls := "LandMapModel$Laid", name := "faceAt", desc := "(JJ)I" } : Jvm.MethodName) prog_31_method_22_code (5 : Nat) (Option.some Jvm.ClassFile.FieldType.int)) ∈ lw_all := lw_g (lw_at lw_m16 150 rfl) rfl
theorem q3928 : (Jvm.Cond.methodLink "LandMapModel$Laid" (265 : Nat) ({ cls := "LandMapModel$Net", name := "inside", desc := "(JJI)I" } : Jvm.MethodName)) ∈ lw_all := lw_g (lw_at lw_m16 151 rfl) rfl
theorem q3929 : (Jvm.Cond.constant "LandMapModel" (370 : Nat) (-1000000 : Int32)) ∈ lw_all := lw_g (lw_at lw_m16 152 rfl) rfl
theorem q3930 : (Jvm.Cond.methodLink "LandMapLaw" (118 : Nat) ({ cls := "LandMapModel", name := "overlay", desc := "(IIZ)I" } : Jvm.MethodName)) ∈ lw_all := lw_g (lw_at lw_m16 153 rfl) rfl
theorem q3931 : (Jvm.Cond.instanceMethod ({ cls := "LandMapModel", name := "overlay", desc := "(IIZ)I" } : Jvm.MethodName)) ∈ lw_all := lw_g (lw_at lw_m16 154 rfl) rfl
theorem q3932 : (Jvm.Cond.selects "LandMapModel" ({ cls := "LandMapModel", name := "overlay", desc := "(IIZ)I" } : Jvm.MethodName) ({ cls := "LandMapModel", name := "overlay", desc := "(IIZ)I" } : Jvm.MethodName)) ∈ lw_all := lw_g (lw_at lw_m16 155 rfl) rfl
theorem q3933 : (Jvm.Cond.code ({ cls := "LandMapModel", name := "overlay", desc := "(IIZ)I" } : Jvm.MethodName) prog_26_method_45_code (8 : Nat) (Option.some Jvm.ClassFile.FieldType.int)) ∈ lw_all := lw_g (lw_at lw_m16 156 rfl) rfl
theorem q3934 : (Jvm.Cond.methodLink "LandMapModel" (371 : Nat) ({ cls := "LandMapModel$Overlay", name := "make", desc := "(LLandMapModel$Laid;IZI)Ljava/util/ArrayList;" } : Jvm.MethodName)) ∈ lw_all := lw_g (lw_at lw_m16 157 rfl) rfl
theorem q3935 : (Jvm.Cond.instanceMethod ({ cls := "LandMapModel$Overlay", name := "make", desc := "(LLandMapModel$Laid;IZI)Ljava/util/ArrayList;" } : Jvm.MethodName)) ∈ lw_all := lw_g (lw_at lw_m16 158 rfl) rfl
theorem q3936 : (Jvm.Cond.selects "LandMapModel$Overlay" ({ cls := "LandMapModel$Overlay", name := "make", desc := "(LLandMapModel$Laid;IZI)Ljava/util/ArrayList;" } : Jvm.MethodName) ({ cls := "LandMapModel$Overlay", name := "make", desc := "(LLandMapModel$Laid;IZI)Ljava/util/ArrayList;" } : Jvm.MethodName)) ∈ lw_all := lw_g (lw_at lw_m16 159 rfl) rfl
theorem q3937 : (Jvm.Cond.code ({ cls := "LandMapModel$Overlay", name := "make", desc := "(LLandMapModel$Laid;IZI)Ljava/util/ArrayList;" } : Jvm.MethodName) prog_33_method_4_code (10 : Nat) (Option.some (Jvm.ClassFile.FieldType.object "java/util/ArrayList"))) ∈ lw_all := lw_g (lw_at lw_m16 160 rfl) rfl
theorem q3938 : (Jvm.Cond.methodLinkNest "LandMapModel$Overlay" (64 : Nat) ({ cls := "LandMapModel$Laid", name := "grown", desc := "([II)[I" } : Jvm.MethodName) "LandMapModel") ∈ lw_tbl := lw_at lw_m16 161 rfl
theorem q3939 : (Jvm.Cond.methodLinkNest "LandMapModel$Overlay" (71 : Nat) ({ cls := "LandMapModel", name := "lengthFor", desc := "(I)I" } : Jvm.MethodName) "LandMapModel") ∈ lw_tbl := lw_at lw_m16 162 rfl
theorem q3940 : (Jvm.Cond.methodLink "LandMapModel$Overlay" (81 : Nat) ({ cls := "LandMapModel$Overlay", name := "isChosen", desc := "(IZZ)Z" } : Jvm.MethodName)) ∈ lw_all := lw_g (lw_at lw_m16 163 rfl) rfl
theorem q3941 : (Jvm.Cond.static ({ cls := "LandMapModel$Overlay", name := "isChosen", desc := "(IZZ)Z" } : Jvm.MethodName)) ∈ lw_all := lw_g (lw_at lw_m16 164 rfl) rfl
theorem q3942 : (Jvm.Cond.code ({ cls := "LandMapModel$Overlay", name := "isChosen", desc := "(IZZ)Z" } : Jvm.MethodName) prog_33_method_2_code (3 : Nat) (Option.some Jvm.ClassFile.FieldType.boolean)) ∈ lw_all := lw_g (lw_at lw_m16 165 rfl) rfl
theorem q3943 : (Jvm.Cond.methodLink "LandMapModel$Overlay" (85 : Nat) ({ cls := "LandMapModel$Net", name := "face", desc := "(I)I" } : Jvm.MethodName)) ∈ lw_all := lw_g (lw_at lw_m16 166 rfl) rfl
theorem q3944 : (Jvm.Cond.methodLink "LandMapModel$Overlay" (88 : Nat) ({ cls := "LandMapModel$Overlay", name := "areAlike", desc := "(IIZ)Z" } : Jvm.MethodName)) ∈ lw_all := lw_g (lw_at lw_m16 167 rfl) rfl
theorem q3945 : (Jvm.Cond.privateMethod ({ cls := "LandMapModel$Overlay", name := "areAlike", desc := "(IIZ)Z" } : Jvm.MethodName)) ∈ lw_tbl := lw_at lw_m16 168 rfl
theorem q3946 : (Jvm.Cond.instanceMethod ({ cls := "LandMapModel$Overlay", name := "areAlike", desc := "(IIZ)Z" } : Jvm.MethodName)) ∈ lw_all := lw_g (lw_at lw_m16 169 rfl) rfl
theorem q3947 : (Jvm.Cond.code ({ cls := "LandMapModel$Overlay", name := "areAlike", desc := "(IIZ)Z" } : Jvm.MethodName) prog_33_method_3_code (4 : Nat) (Option.some Jvm.ClassFile.FieldType.boolean)) ∈ lw_all := lw_g (lw_at lw_m16 170 rfl) rfl
theorem q3948 : (Jvm.Cond.methodLink "LandMapModel$Overlay" (92 : Nat) ({ cls := "LandMapModel$Overlay", name := "fits", desc := "(I)Z" } : Jvm.MethodName)) ∈ lw_all := lw_g (lw_at lw_m16 171 rfl) rfl
theorem q3949 : (Jvm.Cond.privateMethod ({ cls := "LandMapModel$Overlay", name := "fits", desc := "(I)Z" } : Jvm.MethodName)) ∈ lw_tbl := lw_at lw_m16 172 rfl
theorem q3950 : (Jvm.Cond.instanceMethod ({ cls := "LandMapModel$Overlay", name := "fits", desc := "(I)Z" } : Jvm.MethodName)) ∈ lw_all := lw_g (lw_at lw_m16 173 rfl) rfl
theorem q3951 : (Jvm.Cond.code ({ cls := "LandMapModel$Overlay", name := "fits", desc := "(I)Z" } : Jvm.MethodName) prog_33_method_5_code (4 : Nat) (Option.some Jvm.ClassFile.FieldType.boolean)) ∈ lw_all := lw_g (lw_at lw_m16 174 rfl) rfl
theorem q3952 : (Jvm.Cond.methodLink "LandMapModel$Overlay" (130 : Nat) ({ cls := "LandMapModel$Ints", name := "clear", desc := "()V" } : Jvm.MethodName)) ∈ lw_all := lw_g (lw_at lw_m16 175 rfl) rfl
theorem q3953 : (Jvm.Cond.methodLink "LandMapModel$Overlay" (133 : Nat) ({ cls := "LandMapModel$Ints", name := "add", desc := "(I)V" } : Jvm.MethodName)) ∈ lw_all := lw_g (lw_at lw_m16 176 rfl) rfl
theorem q3954 : (Jvm.Cond.methodLink "LandMapModel$Overlay" (136 : Nat) ({ cls := "LandMapModel$Overlay", name := "border", desc := "(I)V" } : Jvm.MethodName)) ∈ lw_all := lw_g (lw_at lw_m16 177 rfl) rfl
theorem q3955 : (Jvm.Cond.privateMethod ({ cls := "LandMapModel$Overlay", name := "border", desc := "(I)V" } : Jvm.MethodName)) ∈ lw_tbl := lw_at lw_m16 178 rfl
theorem q3956 : (Jvm.Cond.instanceMethod ({ cls := "LandMapModel$Overlay", name := "border", desc := "(I)V" } : Jvm.MethodName)) ∈ lw_all := lw_g (lw_at lw_m16 179 rfl) rfl
theorem q3957 : (Jvm.Cond.code ({ cls := "LandMapModel$Overlay", name := "border", desc := "(I)V" } : Jvm.MethodName) prog_33_method_8_code (3 : Nat) (Option.none : Option Jvm.ClassFile.FieldType)) ∈ lw_all := lw_g (lw_at lw_m16 180 rfl) rfl
theorem q3958 : (Jvm.Cond.methodLink "LandMapModel$Overlay" (139 : Nat) ({ cls := "LandMapModel$Overlay", name := "isBorder", desc := "(II)Z" } : Jvm.MethodName)) ∈ lw_all := lw_g (lw_at lw_m16 181 rfl) rfl
theorem q3959 : (Jvm.Cond.privateMethod ({ cls := "LandMapModel$Overlay", name := "isBorder", desc := "(II)Z" } : Jvm.MethodName)) ∈ lw_tbl := lw_at lw_m16 182 rfl
theorem q3960 : (Jvm.Cond.instanceMethod ({ cls := "LandMapModel$Overlay", name := "isBorder", desc := "(II)Z" } : Jvm.MethodName)) ∈ lw_all := lw_g (lw_at lw_m16 183 rfl) rfl
theorem q3961 : (Jvm.Cond.code ({ cls := "LandMapModel$Overlay", name := "isBorder", desc := "(II)Z" } : Jvm.MethodName) prog_33_method_7_code (3 : Nat) (Option.some Jvm.ClassFile.FieldType.boolean)) ∈ lw_all := lw_g (lw_at lw_m16 184 rfl) rfl
theorem q3962 : (Jvm.Cond.methodLink "LandMapModel$Overlay" (143 : Nat) ({ cls := "LandMapModel$Overlay", name := "walk", desc := "(II)V" } : Jvm.MethodName)) ∈ lw_all := lw_g (lw_at lw_m16 185 rfl) rfl
theorem q3963 : (Jvm.Cond.privateMethod ({ cls := "LandMapModel$Overlay", name := "walk", desc := "(II)V" } : Jvm.MethodName)) ∈ lw_tbl := lw_at lw_m16 186 rfl
theorem q3964 : (Jvm.Cond.instanceMethod ({ cls := "LandMapModel$Overlay", name := "walk", desc := "(II)V" } : Jvm.MethodName)) ∈ lw_all := lw_g (lw_at lw_m16 187 rfl) rfl
theorem q3965 : (Jvm.Cond.code ({ cls := "LandMapModel$Overlay", name := "walk", desc := "(II)V" } : Jvm.MethodName) prog_33_method_12_code (5 : Nat) (Option.none : Option Jvm.ClassFile.FieldType)) ∈ lw_all := lw_g (lw_at lw_m16 188 rfl) rfl
theorem q3966 : (Jvm.Cond.methodLink "LandMapModel$Overlay" (168 : Nat) ({ cls := "LandMapModel$Net", name := "start", desc := "(I)I" } : Jvm.MethodName)) ∈ lw_all := lw_g (lw_at lw_m16 189 rfl) rfl
theorem q3967 : (Jvm.Cond.methodLink "LandMapModel$Overlay" (171 : Nat) ({ cls := "LandMapModel$Overlay", name := "come", desc := "(I)V" } : Jvm.MethodName)) ∈ lw_all := lw_g (lw_at lw_m16 190 rfl) rfl
theorem q3968 : (Jvm.Cond.privateMethod ({ cls := "LandMapModel$Overlay", name := "come", desc := "(I)V" } : Jvm.MethodName)) ∈ lw_tbl := lw_at lw_m16 191 rfl
theorem q3969 : (Jvm.Cond.instanceMethod ({ cls := "LandMapModel$Overlay", name := "come", desc := "(I)V" } : Jvm.MethodName)) ∈ lw_all := lw_g (lw_at lw_m16 192 rfl) rfl
theorem q3970 : (Jvm.Cond.code ({ cls := "LandMapModel$Overlay", name := "come", desc := "(I)V" } : Jvm.MethodName) prog_33_method_14_code (2 : Nat) (Option.none : Option Jvm.ClassFile.FieldType)) ∈ lw_all := lw_g (lw_at lw_m16 193 rfl) rfl
theorem q3971 : (Jvm.Cond.methodLink "LandMapModel$Overlay" (184 : Nat) ({ cls := "LandMapModel$Overlay", name := "ring", desc := "(I)V" } : Jvm.MethodName)) ∈ lw_all := lw_g (lw_at lw_m16 194 rfl) rfl
theorem q3972 : (Jvm.Cond.privateMethod ({ cls := "LandMapModel$Overlay", name := "ring", desc := "(I)V" } : Jvm.MethodName)) ∈ lw_tbl := lw_at lw_m16 195 rfl
theorem q3973 : (Jvm.Cond.instanceMethod ({ cls := "LandMapModel$Overlay", name := "ring", desc := "(I)V" } : Jvm.MethodName)) ∈ lw_all := lw_g (lw_at lw_m16 196 rfl) rfl
theorem q3974 : (Jvm.Cond.code ({ cls := "LandMapModel$Overlay", name := "ring", desc := "(I)V" } : Jvm.MethodName) prog_33_method_16_code (5 : Nat) (Option.none : Option Jvm.ClassFile.FieldType)) ∈ lw_all := lw_g (lw_at lw_m16 197 rfl) rfl
theorem q3975 : (Jvm.Cond.methodLink "LandMapModel$Overlay" (197 : Nat) ({ cls := "LandMapModel$Overlay", name := "isStraight", desc := "(II)Z" } : Jvm.MethodName)) ∈ lw_all := lw_g (lw_at lw_m16 198 rfl) rfl
theorem q3976 : (Jvm.Cond.privateMethod ({ cls := "LandMapModel$Overlay", name := "isStraight", desc := "(II)Z" } : Jvm.MethodName)) ∈ lw_tbl := lw_at lw_m16 199 rfl
theorem q3977 : (Jvm.Cond.instanceMethod ({ cls := "LandMapModel$Overlay", name := "isStraight", desc := "(II)Z" } : Jvm.MethodName)) ∈ lw_all := lw_g (lw_at lw_m16 200 rfl) rfl
theorem q3978 : (Jvm.Cond.code ({ cls := "LandMapModel$Overlay", name := "isStraight", desc := "(II)Z" } : Jvm.MethodName) prog_33_method_15_code (7 : Nat) (Option.some Jvm.ClassFile.FieldType.boolean)) ∈ lw_all := lw_g (lw_at lw_m16 201 rfl) rfl
theorem q3979 : (Jvm.Cond.methodLinkNest "LandMapModel$Overlay" (193 : Nat) ({ cls := "LandMapModel", name := "side", desc := "(JJJJJJ)J" } : Jvm.MethodName) "LandMapModel") ∈ lw_tbl := lw_at lw_m16 202 rfl
theorem q3980 : (Jvm.Cond.methodLink "LandMapModel$Overlay" (174 : Nat) ({ cls := "LandMapModel$Overlay", name := "behind", desc := "(II)I" } : Jvm.MethodName)) ∈ lw_all := lw_g (lw_at lw_m16 203 rfl) rfl
theorem q3981 : (Jvm.Cond.privateMethod ({ cls := "LandMapModel$Overlay", name := "behind", desc := "(II)I" } : Jvm.MethodName)) ∈ lw_tbl := lw_at lw_m16 204 rfl
theorem q3982 : (Jvm.Cond.instanceMethod ({ cls := "LandMapModel$Overlay", name := "behind", desc := "(II)I" } : Jvm.MethodName)) ∈ lw_all := lw_g (lw_at lw_m16 205 rfl) rfl
theorem q3983 : (Jvm.Cond.code ({ cls := "LandMapModel$Overlay", name := "behind", desc := "(II)I" } : Jvm.MethodName) prog_33_method_13_code (4 : Nat) (Option.some Jvm.ClassFile.FieldType.int)) ∈ lw_all := lw_g (lw_at lw_m16 206 rfl) rfl
theorem q3984 : (Jvm.Cond.methodLink "LandMapModel$Overlay" (178 : Nat) ({ cls := "LandMapModel$Net", name := "next", desc := "(I)I" } : Jvm.MethodName)) ∈ lw_all := lw_g (lw_at lw_m16 207 rfl) rfl
theorem q3985 : (Jvm.Cond.methodLink "LandMapModel$Overlay" (181 : Nat) ({ cls := "LandMapModel$Net", name := "clockwise", desc := "(I)I" } : Jvm.MethodName)) ∈ lw_all := lw_g (lw_at lw_m16 208 rfl) rfl
theorem q3986 : (Jvm.Cond.classLink "LandMapModel$Overlay" (96 : Nat) "java/util/ArrayList") ∈ lw_all := lw_g (lw_at lw_m16 209 rfl) rfl
theorem q3987 : (Jvm.Cond.methodLink "LandMapModel$Overlay" (98 : Nat) ({ cls := "java/util/ArrayList", name := "<init>", desc := "()V" } : Jvm.MethodName)) ∈ lw_all := lw_g (lw_at lw_m16 210 rfl) rfl
theorem q3988 : (Jvm.Cond.methodLink "LandMapModel$Overlay" (102 : Nat) ({ cls := "LandMapModel$Overlay", name := "area", desc := "(IZ)LLandMapModel$Feature;" } : Jvm.MethodName)) ∈ lw_all := lw_g (lw_at lw_m16 211 rfl) rfl
theorem q3989 : (Jvm.Cond.privateMethod ({ cls := "LandMapModel$Overlay", name := "area", desc := "(IZ)LLandMapModel$Feature;" } : Jvm.MethodName)) ∈ lw_tbl := lw_at lw_m16 212 rfl
theorem q3990 : (Jvm.Cond.instanceMethod ({ cls := "LandMapModel$Overlay", name := "area", desc := "(IZ)LLandMapModel$Feature;" } : Jvm.MethodName)) ∈ lw_all := lw_g (lw_at lw_m16 213 rfl) rfl
theorem q3991 : (Jvm.Cond.code ({ cls := "LandMapModel$Overlay", name := "area", desc := "(IZ)LLandMapModel$Feature;" } : Jvm.MethodName) prog_33_method_10_code (12 : Nat) (Option.some (Jvm.ClassFile.FieldType.object "LandMapModel$Feature"))) ∈ lw_all := lw_g (lw_at lw_m16 214 rfl) rfl
theorem q3992 : (Jvm.Cond.classLink "LandMapModel$Overlay" (149 : Nat) "[I") ∈ lw_all := lw_g (lw_at lw_m16 215 rfl) rfl
theorem q3993 : (Jvm.Cond.methodLink "LandMapModel$Overlay" (150 : Nat) ({ cls := "LandMapModel$Overlay", name := "taken", desc := "(I)[I" } : Jvm.MethodName)) ∈ lw_all := lw_g (lw_at lw_m16 216 rfl) rfl
theorem q3994 : (Jvm.Cond.privateMethod ({ cls := "LandMapModel$Overlay", name := "taken", desc := "(I)[I" } : Jvm.MethodName)) ∈ lw_tbl := lw_at lw_m16 217 rfl
theorem q3995 : (Jvm.Cond.instanceMethod ({ cls := "LandMapModel$Overlay", name := "taken", desc := "(I)[I" } : Jvm.MethodName)) ∈ lw_all := lw_g (lw_at lw_m16 218 rfl) rfl
theorem q3996 : (Jvm.Cond.code ({ cls := "LandMapModel$Overlay", name := "taken", desc := "(I)[I" } : Jvm.MethodName) prog_33_method_9_code (5 : Nat) (Option.some (Jvm.ClassFile.FieldType.array Jvm.ClassFile.FieldType.int))) ∈ lw_all := lw_g (lw_at lw_m16 219 rfl) rfl
theorem q3997 : (Jvm.Cond.methodLink "LandMapModel$Overlay" (154 : Nat) ({ cls := "LandMapModel$Overlay", name := "area2", desc := "([I)J" } : Jvm.MethodName)) ∈ lw_all := lw_g (lw_at lw_m16 220 rfl) rfl
theorem q3998 : (Jvm.Cond.static ({ cls := "LandMapModel$Overlay", name := "area2", desc := "([I)J" } : Jvm.MethodName)) ∈ lw_all := lw_g (lw_at lw_m16 221 rfl) rfl
theorem q3999 : (Jvm.Cond.code ({ cls := "LandMapModel$Overlay", name := "area2", desc := "([I)J" } : Jvm.MethodName) prog_33_method_11_code (4 : Nat) (Option.some Jvm.ClassFile.FieldType.long)) ∈ lw_all := lw_g (lw_at lw_m16 222 rfl) rfl
theorem q4000 : (Jvm.Cond.methodLink "LandMapModel$Overlay" (122 : Nat) ({ cls := "LandMapModel$Overlay", name := "compare", desc := "([I[I)I" } : Jvm.MethodName)) ∈ lw_all := lw_g (lw_at lw_m16 223 rfl) rfl
theorem q4001 : (Jvm.Cond.static ({ cls := "LandMapModel$Overlay", name := "compare", desc := "([I[I)I" } : Jvm.MethodName)) ∈ lw_all := lw_g (lw_at lw_m16 224 rfl) rfl
theorem q4002 : (Jvm.Cond.code ({ cls := "LandMapModel$Overlay", name := "compare", desc := "([I[I)I" } : Jvm.MethodName) prog_33_method_6_code (3 : Nat) (Option.some Jvm.ClassFile.FieldType.int)) ∈ lw_all := lw_g (lw_at lw_m16 225 rfl) rfl
theorem q4003 : (Jvm.Cond.classLink "LandMapModel$Overlay" (114 : Nat) "LandMapModel$Feature") ∈ lw_all := lw_g (lw_at lw_m16 226 rfl) rfl
theorem q4004 : (Jvm.Cond.methodLink "LandMapModel$Overlay" (165 : Nat) ({ cls := "LandMapModel$Feature", name := "<init>", desc := "(II[[I)V" } : Jvm.MethodName)) ∈ lw_all := lw_g (lw_at lw_m16 227 rfl) rfl
theorem q4005 : (Jvm.Cond.methodLink "LandMapModel$Overlay" (106 : Nat) ({ cls := "java/util/ArrayList", name := "size", desc := "()I" } : Jvm.MethodName)) ∈ lw_all := lw_g (lw_at lw_m16 228 rfl) rfl
theorem q4006 : (Jvm.Cond.methodLink "LandMapModel$Overlay" (109 : Nat) ({ cls := "java/util/ArrayList", name := "add", desc := "(Ljava/lang/Object;)Z" } : Jvm.MethodName)) ∈ lw_all := lw_g (lw_at lw_m16 229 rfl) rfl
theorem q4007 : (Jvm.Cond.methodLink "LandMapModel$Overlay" (118 : Nat) ({ cls := "java/util/ArrayList", name := "get", desc := "(I)Ljava/lang/Object;" } : Jvm.MethodName)) ∈ lw_all := lw_g (lw_at lw_m16 230 rfl) rfl
theorem q4008 : (Jvm.Cond.methodLink "LandMapModel$Overlay" (126 : Nat) ({ cls := "java/util/ArrayList", name := "set", desc := "(ILjava/lang/Object;)Ljava/lang/Object;" } : Jvm.MethodName)) ∈ lw_all := lw_g (lw_at lw_m16 231 rfl) rfl
theorem q4009 : (Jvm.Cond.instanceMethod ({ cls := "java/util/ArrayList", name := "set", desc := "(ILjava/lang/Object;)Ljava/lang/Object;" } : Jvm.MethodName)) ∈ lw_all := lw_g (lw_at lw_m16 232 rfl) rfl
theorem q4010 : (Jvm.Cond.selects "java/util/ArrayList" ({ cls := "java/util/ArrayList", name := "set", desc := "(ILjava/lang/Object;)Ljava/lang/Object;" } : Jvm.MethodName) ({ cls := "java/util/ArrayList", name := "set", desc := "(ILjava/lang/Object;)Ljava/lang/Object;" } : Jvm.MethodName)) ∈ lw_all := lw_g (lw_at lw_m16 233 rfl) rfl
theorem q4011 : (Jvm.Cond.code ({ cls := "java/util/ArrayList", name := "set", desc := "(ILjava/lang/Object;)Ljava/lang/Object;" } : Jvm.MethodName) prog_70_method_23_code (4 : Nat) (Option.some (Jvm.ClassFile.FieldType.object "java/lang/Object"))) ∈ lw_all := lw_g (lw_at lw_m16 234 rfl) rfl
theorem q4012 : (Jvm.Cond.methodLink "LandMapLaw" (123 : Nat) ({ cls := "LandMapModel", name := "other", desc := "(II)Z" } : Jvm.MethodName)) ∈ lw_all := lw_g (lw_at lw_m16 235 rfl) rfl
theorem q4013 : (Jvm.Cond.instanceMethod ({ cls := "LandMapModel", name := "other", desc := "(II)Z" } : Jvm.MethodName)) ∈ lw_all := lw_g (lw_at lw_m16 236 rfl) rfl
theorem q4014 : (Jvm.Cond.selects "LandMapModel" ({ cls := "LandMapModel", name := "other", desc := "(II)Z" } : Jvm.MethodName) ({ cls := "LandMapModel", name := "other", desc := "(II)Z" } : Jvm.MethodName)) ∈ lw_all := lw_g (lw_at lw_m16 237 rfl) rfl
theorem q4015 : (Jvm.Cond.code ({ cls := "LandMapModel", name := "other", desc := "(II)Z" } : Jvm.MethodName) prog_26_method_46_code (3 : Nat) (Option.some Jvm.ClassFile.FieldType.boolean)) ∈ lw_all := lw_g (lw_at lw_m16 238 rfl) rfl
theorem q4016 : (Jvm.Cond.methodLink "LandMapLaw" (127 : Nat) ({ cls := "LandMapModel", name := "relate", desc := "(IIII)I" } : Jvm.MethodName)) ∈ lw_all := lw_g (lw_at lw_m16 239 rfl) rfl
theorem q4017 : (Jvm.Cond.instanceMethod ({ cls := "LandMapModel", name := "relate", desc := "(IIII)I" } : Jvm.MethodName)) ∈ lw_all := lw_g (lw_at lw_m17 0 rfl) rfl
theorem q4018 : (Jvm.Cond.selects "LandMapModel" ({ cls := "LandMapModel", name := "relate", desc := "(IIII)I" } : Jvm.MethodName) ({ cls := "LandMapModel", name := "relate", desc := "(IIII)I" } : Jvm.MethodName)) ∈ lw_all := lw_g (lw_at lw_m17 1 rfl) rfl
theorem q4019 : (Jvm.Cond.code ({ cls := "LandMapModel", name := "relate", desc := "(IIII)I" } : Jvm.MethodName) prog_26_method_48_code (6 : Nat) (Option.some Jvm.ClassFile.FieldType.int)) ∈ lw_all := lw_g (lw_at lw_m17 2 rfl) rfl
theorem q4020 : (Jvm.Cond.methodLink "LandMapModel" (385 : Nat) ({ cls := "LandMapModel", name := "related", desc := "(II)I" } : Jvm.MethodName)) ∈ lw_all := lw_g (lw_at lw_m17 3 rfl) rfl
theorem q4021 : (Jvm.Cond.privateMethod ({ cls := "LandMapModel", name := "related", desc := "(II)I" } : Jvm.MethodName)) ∈ lw_tbl := lw_at lw_m17 4 rfl
theorem q4022 : (Jvm.Cond.instanceMethod ({ cls := "LandMapModel", name := "related", desc := "(II)I" } : Jvm.MethodName)) ∈ lw_all := lw_g (lw_at lw_m17 5 rfl) rfl
theorem q4023 : (Jvm.Cond.code ({ cls := "LandMapModel", name := "related", desc := "(II)I" } : Jvm.MethodName) prog_26_method_47_code (5 : Nat) (Option.some Jvm.ClassFile.FieldType.int)) ∈ lw_all := lw_g (lw_at lw_m17 6 rfl) rfl
theorem q4024 : (Jvm.Cond.methodLink "LandMapModel" (381 : Nat) ({ cls := "LandMapModel$Relation", name := "work", desc := "(LLandMapModel$Feature;LLandMapModel$Feature;)Z" } : Jvm.MethodName)) ∈ lw_all := lw_g (lw_at lw_m17 7 rfl) rfl
theorem q4025 : (Jvm.Cond.instanceMethod ({ cls := "LandMapModel$Relation", name := "work", desc := "(LLandMapModel$Feature;LLandMapModel$Feature;)Z" } : Jvm.MethodName)) ∈ lw_all := lw_g (lw_at lw_m17 8 rfl) rfl
theorem q4026 : (Jvm.Cond.selects "LandMapModel$Relation" ({ cls := "LandMapModel$Relation", name := "work", desc := "(LLandMapModel$Feature;LLandMapModel$Feature;)Z" } : Jvm.MethodName) ({ cls := "LandMapModel$Relation", name := "work", desc := "(LLandMapModel$Feature;LLandMapModel$Feature;)Z" } : Jvm.MethodName)) ∈ lw_all := lw_g (lw_at lw_m17 9 rfl) rfl
theorem q4027 : (Jvm.Cond.code ({ cls := "LandMapModel$Relation", name := "work", desc := "(LLandMapModel$Feature;LLandMapModel$Feature;)Z" } : Jvm.MethodName) prog_36_method_2_code (5 : Nat) (Option.some Jvm.ClassFile.FieldType.boolean)) ∈ lw_all := lw_g (lw_at lw_m17 10 rfl) rfl
theorem q4028 : (Jvm.Cond.methodLink "LandMapModel$Relation" (40 : Nat) ({ cls := "LandMapModel$Laid", name := "clear", desc := "()V" } : Jvm.MethodName)) ∈ lw_all := lw_g (lw_at lw_m17 11 rfl) rfl
theorem q4029 : (Jvm.Cond.methodLink "LandMapModel$Relation" (43 : Nat) ({ cls := "LandMapModel$Laid", name := "add", desc := "(LLandMapModel$Feature;IZ)V" } : Jvm.MethodName)) ∈ lw_all := lw_g (lw_at lw_m17 12 rfl) rfl
theorem q4030 : (Jvm.Cond.methodLink "LandMapModel$Relation" (47 : Nat) ({ cls := "LandMapModel$Laid", name := "lay", desc := "()Z" } : Jvm.MethodName)) ∈ lw_all := lw_g (lw_at lw_m17 13 rfl) rfl
theorem q4031 : (Jvm.Cond.methodLinkNest "LandMapModel$Relation" (60 : Nat) ({ cls := "LandMapModel", name := "lengthFor", desc := "(I)I" } : Jvm.MethodName) "LandMapModel") ∈ lw_tbl := lw_at lw_m17 14 rfl
theorem q4032 : (Jvm.Cond.methodLinkNest "LandMapModel$Relation" (66 : Nat) ({ cls := "LandMapModel$Laid", name := "grown", desc := "([II)[I" } : Jvm.MethodName) "LandMapModel") ∈ lw_tbl := lw_at lw_m17 15 rfl
theorem q4033 : (Jvm.Cond.methodLink "LandMapModel$Relation" (70 : Nat) ({ cls := "LandMapModel$Net", name := "degree", desc := "(I)I" } : Jvm.MethodName)) ∈ lw_all := lw_g (lw_at lw_m17 16 rfl) rfl
theorem q4034 : (Jvm.Cond.methodLink "LandMapModel$Relation" (73 : Nat) ({ cls := "LandMapModel$Net", name := "faceAround", desc := "(I)I" } : Jvm.MethodName)) ∈ lw_all := lw_g (lw_at lw_m17 17 rfl) rfl
theorem q4035 : (Jvm.Cond.instanceMethod ({ cls := "LandMapModel$Net", name := "faceAround", desc := "(I)I" } : Jvm.MethodName)) ∈ lw_all := lw_g (lw_at lw_m17 18 rfl) rfl
theorem q4036 : (Jvm.Cond.selects "LandMapModel$Net" ({ cls := "LandMapModel$Net", name := "faceAround", desc := "(I)I" } : Jvm.MethodName) ({ cls := "LandMapModel$Net", name := "faceAround", desc := "(I)I" } : Jvm.MethodName)) ∈ lw_all := lw_g (lw_at lw_m17 19 rfl) rfl
theorem q4037 : (Jvm.Cond.code ({ cls := "LandMapModel$Net", name := "faceAround", desc := "(I)I" } : Jvm.MethodName) prog_32_method_20_code (2 : Nat) (Option.some Jvm.ClassFile.FieldType.int)) ∈ lw_all := lw_g (lw_at lw_m17 20 rfl) rfl
theorem q4038 : (Jvm.Cond.methodLink "LandMapModel$Relation" (78 : Nat) ({ cls := "LandMapModel$Relation", name := "parts", desc := "(LLandMapModel$Net;I)V" } : Jvm.MethodName)) ∈ lw_all := lw_g (lw_at lw_m17 21 rfl) rfl
theorem q4039 : (Jvm.Cond.privateMethod ({ cls := "LandMapModel$Relation", name := "parts", desc := "(LLandMapModel$Net;I)V" } : Jvm.MethodName)) ∈ lw_tbl := lw_at lw_m17 22 rfl
theorem q4040 : (Jvm.Cond.instanceMethod ({ cls := "LandMapModel$Relation", name := "parts", desc := "(LLandMapModel$Net;I)V" } : Jvm.MethodName)) ∈ lw_all := lw_g (lw_at lw_m17 23 rfl) rfl
theorem q4041 : (Jvm.Cond.code ({ cls := "LandMapModel$Relation", name := "parts", desc := "(LLandMapModel$Net;I)V" } : Jvm.MethodName) prog_36_method_4_code (5 : Nat) (Option.none : Option Jvm.ClassFile.FieldType)) ∈ lw_all := lw_g (lw_at lw_m17 24 rfl) rfl
theorem q4042 : (Jvm.Cond.methodLink "LandMapModel$Relation" (105 : Nat) ({ cls := "LandMapModel$Feature", name := "x", desc := "(II)I" } : Jvm.MethodName)) ∈ lw_all := lw_g (lw_at lw_m17 25 rfl) rfl
theorem q4043 : (Jvm.Cond.methodLink "LandMapModel$Relation" (108 : Nat) ({ cls := "LandMapModel$Feature", name := "y", desc := "(II)I" } : Jvm.MethodName)) ∈ lw_all := lw_g (lw_at lw_m17 26 rfl) rfl
theorem q4044 : (Jvm.Cond.methodLink "LandMapModel$Relation" (111 : Nat) ({ cls := "LandMapModel$Places", name := "find", desc := "(II)I" } : Jvm.MethodName)) ∈ lw_all := lw_g (lw_at lw_m17 27 rfl) rfl
theorem q4045 : (Jvm.Cond.methodLink "LandMapModel$Relation" (116 : Nat) ({ cls := "LandMapModel$Relation", name := "line", desc := "(LLandMapModel$Net;LLandMapModel$Feature;I)V" } : Jvm.MethodName)) ∈ lw_all := lw_g (lw_at lw_m17 28 rfl) rfl
theorem q4046 : (Jvm.Cond.privateMethod ({ cls := "LandMapModel$Relation", name := "line", desc := "(LLandMapModel$Net;LLandMapModel$Feature;I)V" } : Jvm.MethodName)) ∈ lw_tbl := lw_at lw_m17 29 rfl
theorem q4047 : (Jvm.Cond.instanceMethod ({ cls := "LandMapModel$Relation", name := "line", desc := "(LLandMapModel$Net;LLandMapModel$Feature;I)V" } : Jvm.MethodName)) ∈ lw_all := lw_g (lw_at lw_m17 30 rfl) rfl
theorem q4048 : (Jvm.Cond.code ({ cls := "LandMapModel$Relation", name := "line", desc := "(LLandMapModel$Net;LLandMapModel$Feature;I)V" } : Jvm.MethodName) prog_36_method_5_code (8 : Nat) (Option.none : Option Jvm.ClassFile.FieldType)) ∈ lw_all := lw_g (lw_at lw_m17 31 rfl) rfl
theorem q4049 : (Jvm.Cond.methodLink "LandMapModel$Relation" (127 : Nat) ({ cls := "LandMapModel$Steps", name := "size", desc := "()I" } : Jvm.MethodName)) ∈ lw_all := lw_g (lw_at lw_m17 32 rfl) rfl
theorem q4050 : (Jvm.Cond.methodLink "LandMapModel$Relation" (154 : Nat) ({ cls := "LandMapModel$Feature", name := "length", desc := "(I)I" } : Jvm.MethodName)) ∈ lw_all := lw_g (lw_at lw_m17 33 rfl) rfl
theorem q4051 : (Jvm.Cond.methodLink "LandMapModel$Relation" (120 : Nat) ({ cls := "LandMapModel$Relation", name := "area", desc := "(LLandMapModel$Net;I)V" } : Jvm.MethodName)) ∈ lw_all := lw_g (lw_at lw_m17 34 rfl) rfl
theorem q4052 : (Jvm.Cond.privateMethod ({ cls := "LandMapModel$Relation", name := "area", desc := "(LLandMapModel$Net;I)V" } : Jvm.MethodName)) ∈ lw_tbl := lw_at lw_m17 35 rfl
theorem q4053 : (Jvm.Cond.instanceMethod ({ cls := "LandMapModel$Relation", name := "area", desc := "(LLandMapModel$Net;I)V" } : Jvm.MethodName)) ∈ lw_all := lw_g (lw_at lw_m17 36 rfl) rfl
theorem q4054 : (Jvm.Cond.code ({ cls := "LandMapModel$Relation", name := "area", desc := "(LLandMapModel$Net;I)V" } : Jvm.MethodName) prog_36_method_6_code (8 : Nat) (Option.none : Option Jvm.ClassFile.FieldType)) ∈ lw_all := lw_g (lw_at lw_m17 37 rfl) rfl
theorem q4055 : (Jvm.Cond.methodLink "LandMapModel$Relation" (157 : Nat) ({ cls := "LandMapModel$Laid", name := "cover", desc := "(I[Z)V" } : Jvm.MethodName)) ∈ lw_all := lw_g (lw_at lw_m17 38 rfl) rfl
theorem q4056 : (Jvm.Cond.methodLink "LandMapModel$Relation" (161 : Nat) ({ cls := "LandMapModel$Net", name := "outOf", desc := "(II)I" } : Jvm.MethodName)) ∈ lw_all := lw_g (lw_at lw_m17 39 rfl) rfl
theorem q4057 : (Jvm.Cond.instanceMethod ({ cls := "LandMapModel$Net", name := "outOf", desc := "(II)I" } : Jvm.MethodName)) ∈ lw_all := lw_g (lw_at lw_m17 40 rfl) rfl
theorem q4058 : (Jvm.Cond.selects "LandMapModel$Net" ({ cls := "LandMapModel$Net", name := "outOf", desc := "(II)I" } : Jvm.MethodName) ({ cls := "LandMapModel$Net", name := "outOf", desc := "(II)I" } : Jvm.MethodName)) ∈ lw_all := lw_g (lw_at lw_m17 41 rfl) rfl
theorem q4059 : (Jvm.Cond.code ({ cls := "LandMapModel$Net", name := "outOf", desc := "(II)I" } : Jvm.MethodName) prog_32_method_9_code (3 : Nat) (Option.some Jvm.ClassFile.FieldType.int)) ∈ lw_all := lw_g (lw_at lw_m17 42 rfl) rfl
theorem q4060 : (Jvm.Cond.methodLink "LandMapModel$Relation" (164 : Nat) ({ cls := "LandMapModel$Net", name := "face", desc := "(I)I" } : Jvm.MethodName)) ∈ lw_all := lw_g (lw_at lw_m17 43 rfl) rfl
theorem q4061 : (Jvm.Cond.methodLink "LandMapModel$Relation" (82 : Nat) ({ cls := "LandMapModel$Relation", name := "tell", desc := "(III)V" } : Jvm.MethodName)) ∈ lw_all := lw_g (lw_at lw_m17 44 rfl) rfl
theorem q4062 : (Jvm.Cond.privateMethod ({ cls := "LandMapModel$Relation", name := "tell", desc := "(III)V" } : Jvm.MethodName)) ∈ lw_tbl := lw_at lw_m17 45 rfl
theorem q4063 : (Jvm.Cond.instanceMethod ({ cls := "LandMapModel$Relation", name := "tell", desc := "(III)V" } : Jvm.MethodName)) ∈ lw_all := lw_g (lw_at lw_m17 46 rfl) rfl
theorem q4064 : (Jvm.Cond.code ({ cls := "LandMapModel$Relation", name := "tell", desc := "(III)V" } : Jvm.MethodName) prog_36_method_3_code (4 : Nat) (Option.none : Option Jvm.ClassFile.FieldType)) ∈ lw_all := lw_g (lw_at lw_m17 47 rfl) rfl
theorem q4065 : (Jvm.Cond.methodLink "LandMapModel$Relation" (86 : Nat) ({ cls := "java/lang/Math", name := "max", desc := "(II)I" } : Jvm.MethodName)) ∈ lw_all := lw_g (lw_at lw_m17 48 rfl) rfl
theorem q4066 : (Jvm.Cond.methodLink "LandMapLaw" (131 : Nat) ({ cls := "LandMapModel", name := "relation", desc := "(III)I" } : Jvm.MethodName)) ∈ lw_all := lw_g (lw_at lw_m17 49 rfl) rfl
theorem q4067 : (Jvm.Cond.instanceMethod ({ cls := "LandMapModel", name := "relation", desc := "(III)I" } : Jvm.MethodName)) ∈ lw_all := lw_g (lw_at lw_m17 50 rfl) rfl
theorem q4068 : (Jvm.Cond.selects "LandMapModel" ({ cls := "LandMapModel", name := "relation", desc := "(III)I" } : Jvm.MethodName) ({ cls := "LandMapModel", name := "relation", desc := "(III)I" } : Jvm.MethodName)) ∈ lw_all := lw_g (lw_at lw_m17 51 rfl) rfl
theorem q4069 : (Jvm.Cond.code ({ cls := "LandMapModel", name := "relation", desc := "(III)I" } : Jvm.MethodName) prog_26_method_49_code (5 : Nat) (Option.some Jvm.ClassFile.FieldType.int)) ∈ lw_all := lw_g (lw_at lw_m17 52 rfl) rfl
theorem q4070 : (Jvm.Cond.methodLink "LandMapModel" (391 : Nat) ({ cls := "LandMapModel$Relation", name := "holds", desc := "(III)Z" } : Jvm.MethodName)) ∈ lw_all := lw_g (lw_at lw_m17 53 rfl) rfl
theorem q4071 : (Jvm.Cond.instanceMethod ({ cls := "LandMapModel$Relation", name := "holds", desc := "(III)Z" } : Jvm.MethodName)) ∈ lw_all := lw_g (lw_at lw_m17 54 rfl) rfl
theorem q4072 : (Jvm.Cond.selects "LandMapModel$Relation" ({ cls := "LandMapModel$Relation", name := "holds", desc := "(III)Z" } : Jvm.MethodName) ({ cls := "LandMapModel$Relation", name := "holds", desc := "(III)Z" } : Jvm.MethodName)) ∈ lw_all := lw_g (lw_at lw_m17 55 rfl) rfl
theorem q4073 : (Jvm.Cond.code ({ cls := "LandMapModel$Relation", name := "holds", desc := "(III)Z" } : Jvm.MethodName) prog_36_method_8_code (5 : Nat) (Option.some Jvm.ClassFile.FieldType.boolean)) ∈ lw_all := lw_g (lw_at lw_m17 56 rfl) rfl
theorem q4074 : (Jvm.Cond.methodLink "LandMapModel$Relation" (167 : Nat) ({ cls := "LandMapModel$Relation", name := "none", desc := "(II)Z" } : Jvm.MethodName)) ∈ lw_all := lw_g (lw_at lw_m17 57 rfl) rfl
theorem q4075 : (Jvm.Cond.privateMethod ({ cls := "LandMapModel$Relation", name := "none", desc := "(II)Z" } : Jvm.MethodName)) ∈ lw_tbl := lw_at lw_m17 58 rfl
theorem q4076 : (Jvm.Cond.instanceMethod ({ cls := "LandMapModel$Relation", name := "none", desc := "(II)Z" } : Jvm.MethodName)) ∈ lw_all := lw_g (lw_at lw_m17 59 rfl) rfl
theorem q4077 : (Jvm.Cond.code ({ cls := "LandMapModel$Relation", name := "none", desc := "(II)Z" } : Jvm.MethodName) prog_36_method_7_code (3 : Nat) (Option.some Jvm.ClassFile.FieldType.boolean)) ∈ lw_all := lw_g (lw_at lw_m17 60 rfl) rfl
theorem q4078 : (Jvm.Cond.methodLink "LandMapModel$Relation" (171 : Nat) ({ cls := "LandMapModel$Relation", name := "crosses", desc := "(II)Z" } : Jvm.MethodName)) ∈ lw_all := lw_g (lw_at lw_m17 61 rfl) rfl
theorem q4079 : (Jvm.Cond.privateMethod ({ cls := "LandMapModel$Relation", name := "crosses", desc := "(II)Z" } : Jvm.MethodName)) ∈ lw_tbl := lw_at lw_m17 62 rfl
theorem q4080 : (Jvm.Cond.instanceMethod ({ cls := "LandMapModel$Relation", name := "crosses", desc := "(II)Z" } : Jvm.MethodName)) ∈ lw_all := lw_g (lw_at lw_m17 63 rfl) rfl
theorem q4081 : (Jvm.Cond.code ({ cls := "LandMapModel$Relation", name := "crosses", desc := "(II)Z" } : Jvm.MethodName) prog_36_method_9_code (3 : Nat) (Option.some Jvm.ClassFile.FieldType.boolean)) ∈ lw_all := lw_g (lw_at lw_m17 64 rfl) rfl
theorem q4082 : (Jvm.Cond.methodLink "LandMapLaw" (135 : Nat) ({ cls := "LandMapModel", name := "bar", desc := "()I" } : Jvm.MethodName)) ∈ lw_all := lw_g (lw_at lw_m17 65 rfl) rfl
theorem q4083 : (Jvm.Cond.instanceMethod ({ cls := "LandMapModel", name := "bar", desc := "()I" } : Jvm.MethodName)) ∈ lw_all := lw_g (lw_at lw_m17 66 rfl) rfl
theorem q4084 : (Jvm.Cond.selects "LandMapModel" ({ cls := "LandMapModel", name := "bar", desc := "()I" } : Jvm.MethodName) ({ cls := "LandMapModel", name := "bar", desc := "()I" } : Jvm.MethodName)) ∈ lw_all := lw_g (lw_at lw_m17 67 rfl) rfl
theorem q4085 : (Jvm.Cond.code ({ cls := "LandMapModel", name := "bar", desc := "()I" } : Jvm.MethodName) prog_26_method_50_code (5 : Nat) (Option.some Jvm.ClassFile.FieldType.int)) ∈ lw_all := lw_g (lw_at lw_m17 68 rfl) rfl
theorem q4086 : (Jvm.Cond.methodLink "LandMapLaw" (140 : Nat) ({ cls := "LandMapModel", name := "route", desc := "()J" } : Jvm.MethodName)) ∈ lw_all := lw_g (lw_at lw_m17 69 rfl) rfl
theorem q4087 : (Jvm.Cond.instanceMethod ({ cls := "LandMapModel", name := "route", desc := "()J" } : Jvm.MethodName)) ∈ lw_all := lw_g (lw_at lw_m17 70 rfl) rfl
theorem q4088 : (Jvm.Cond.selects "LandMapModel" ({ cls := "LandMapModel", name := "route", desc := "()J" } : Jvm.MethodName) ({ cls := "LandMapModel", name := "route", desc := "()J" } : Jvm.MethodName)) ∈ lw_all := lw_g (lw_at lw_m17 71 rfl) rfl
theorem q4089 : (Jvm.Cond.code ({ cls := "LandMapModel", name := "route", desc := "()J" } : Jvm.MethodName) prog_26_method_51_code (5 : Nat) (Option.some Jvm.ClassFile.FieldType.long)) ∈ lw_all := lw_g (lw_at lw_m17 72 rfl) rfl
theorem q4090 : (Jvm.Cond.constantLong "LandMapModel" (398 : Nat) (-13 : Int64)) ∈ lw_all := lw_g (lw_at lw_m17 73 rfl) rfl
theorem q4091 : (Jvm.Cond.methodLink "LandMapModel" (400 : Nat) ({ cls := "LandMapModel$Roads", name := "route", desc := "(LLandMapModel$Laid;[I[II)J" } : Jvm.MethodName)) ∈ lw_all := lw_g (lw_at lw_m17 74 rfl) rfl
theorem q4092 : (Jvm.Cond.instanceMethod ({ cls := "LandMapModel$Roads", name := "route", desc := "(LLandMapModel$Laid;[I[II)J" } : Jvm.MethodName)) ∈ lw_all := lw_g (lw_at lw_m17 75 rfl) rfl
theorem q4093 : (Jvm.Cond.selects "LandMapModel$Roads" ({ cls := "LandMapModel$Roads", name := "route", desc := "(LLandMapModel$Laid;[I[II)J" } : Jvm.MethodName) ({ cls := "LandMapModel$Roads", name := "route", desc := "(LLandMapModel$Laid;[I[II)J" } : Jvm.MethodName)) ∈ lw_all := lw_g (lw_at lw_m17 76 rfl) rfl
theorem q4094 : (Jvm.Cond.code ({ cls := "LandMapModel$Roads", name := "route", desc := "(LLandMapModel$Laid;[I[II)J" } : Jvm.MethodName) prog_37_method_9_code (10 : Nat) (Option.some Jvm.ClassFile.FieldType.long)) ∈ lw_all := lw_g (lw_at lw_m17 77 rfl) rfl
theorem q4095 : (Jvm.Cond.methodLink "LandMapModel$Roads" (140 : Nat) ({ cls := "LandMapModel$Ints", name := "clear", desc := "()V" } : Jvm.MethodName)) ∈ lw_all := lw_g (lw_at lw_m17 78 rfl) rfl
theorem q4096 : (Jvm.Cond.methodLink "LandMapModel$Roads" (143 : Nat) ({ cls := "LandMapModel$Roads", name := "weigh", desc := "()V" } : Jvm.MethodName)) ∈ lw_all := lw_g (lw_at lw_m17 79 rfl) rfl
theorem q4097 : (Jvm.Cond.privateMethod ({ cls := "LandMapModel$Roads", name := "weigh", desc := "()V" } : Jvm.MethodName)) ∈ lw_tbl := lw_at lw_m17 80 rfl
theorem q4098 : (Jvm.Cond.instanceMethod ({ cls := "LandMapModel$Roads", name := "weigh", desc := "()V" } : Jvm.MethodName)) ∈ lw_all := lw_g (lw_at lw_m17 81 rfl) rfl
theorem q4099 : (Jvm.Cond.code ({ cls := "LandMapModel$Roads", name := "weigh", desc := "()V" } : Jvm.MethodName) prog_37_method_2_code (7 : Nat) (Option.none : Option Jvm.ClassFile.FieldType)) ∈ lw_all := lw_g (lw_at lw_m17 82 rfl) rfl
theorem q4100 : (Jvm.Cond.methodLinkNest "LandMapModel$Roads" (52 : Nat) ({ cls := "LandMapModel", name := "lengthFor", desc := "(I)I" } : Jvm.MethodName) "LandMapModel") ∈ lw_tbl := lw_at lw_m17 83 rfl
theorem q4101 : (Jvm.Cond.methodLink "LandMapModel$Roads" (66 : Nat) ({ cls := "LandMapModel$Steps", name := "size", desc := "()I" } : Jvm.MethodName)) ∈ lw_all := lw_g (lw_at lw_m17 84 rfl) rfl
theorem q4102 : (Jvm.Cond.methodLink "LandMapModel$Roads" (95 : Nat) ({ cls := "java/lang/Math", name := "min", desc := "(JJ)J" } : Jvm.MethodName)) ∈ lw_all := lw_g (lw_at lw_m17 85 rfl) rfl
theorem q4103 : (Jvm.Cond.constantLong "LandMapModel$Roads" (101 : Nat) (1000000 : Int64)) ∈ lw_all := lw_g (lw_at lw_m17 86 rfl) rfl
theorem q4104 : (Jvm.Cond.methodLink "LandMapModel$Roads" (103 : Nat) ({ cls := "java/lang/Math", name := "max", desc := "(JJ)J" } : Jvm.MethodName)) ∈ lw_all := lw_g (lw_at lw_m17 87 rfl) rfl
theorem q4105 : (Jvm.Cond.methodLinkNest "LandMapModel$Roads" (118 : Nat) ({ cls := "LandMapModel", name := "lengthOf", desc := "(JJ)J" } : Jvm.MethodName) "LandMapModel") ∈ lw_tbl := lw_at lw_m17 88 rfl
theorem q4106 : (Jvm.Cond.methodLink "LandMapModel$Roads" (150 : Nat) ({ cls := "LandMapModel$Places", name := "find", desc := "(II)I" } : Jvm.MethodName)) ∈ lw_all := lw_g (lw_at lw_m17 89 rfl) rfl
theorem q4107 : (Jvm.Cond.methodLink "LandMapModel$Roads" (155 : Nat) ({ cls := "LandMapModel$Roads", name := "isNode", desc := "(I)Z" } : Jvm.MethodName)) ∈ lw_all := lw_g (lw_at lw_m17 90 rfl) rfl
theorem q4108 : (Jvm.Cond.privateMethod ({ cls := "LandMapModel$Roads", name := "isNode", desc := "(I)Z" } : Jvm.MethodName)) ∈ lw_tbl := lw_at lw_m17 91 rfl
theorem q4109 : (Jvm.Cond.instanceMethod ({ cls := "LandMapModel$Roads", name := "isNode", desc := "(I)Z" } : Jvm.MethodName)) ∈ lw_all := lw_g (lw_at lw_m17 92 rfl) rfl
theorem q4110 : (Jvm.Cond.code ({ cls := "LandMapModel$Roads", name := "isNode", desc := "(I)Z" } : Jvm.MethodName) prog_37_method_3_code (3 : Nat) (Option.some Jvm.ClassFile.FieldType.boolean)) ∈ lw_all := lw_g (lw_at lw_m17 93 rfl) rfl
theorem q4111 : (Jvm.Cond.methodLink "LandMapModel$Roads" (121 : Nat) ({ cls := "LandMapModel$Net", name := "degree", desc := "(I)I" } : Jvm.MethodName)) ∈ lw_all := lw_g (lw_at lw_m17 94 rfl) rfl
theorem q4112 : (Jvm.Cond.methodLink "LandMapModel$Roads" (124 : Nat) ({ cls := "LandMapModel$Net", name := "outOf", desc := "(II)I" } : Jvm.MethodName)) ∈ lw_all := lw_g (lw_at lw_m17 95 rfl) rfl
theorem q4113 : (Jvm.Cond.constantLong "LandMapModel$Roads" (159 : Nat) (-1 : Int64)) ∈ lw_all := lw_g (lw_at lw_m17 96 rfl) rfl
theorem q4114 : (Jvm.Cond.methodLink "LandMapModel$Roads" (161 : Nat) ({ cls := "LandMapModel$Ints", name := "add", desc := "(I)V" } : Jvm.MethodName)) ∈ lw_all := lw_g (lw_at lw_m17 97 rfl) rfl
theorem q4115 : (Jvm.Cond.methodLink "LandMapModel$Roads" (164 : Nat) ({ cls := "LandMapModel$Roads", name := "spread", desc := "(I)V" } : Jvm.MethodName)) ∈ lw_all := lw_g (lw_at lw_m17 98 rfl) rfl
theorem q4116 : (Jvm.Cond.privateMethod ({ cls := "LandMapModel$Roads", name := "spread", desc := "(I)V" } : Jvm.MethodName)) ∈ lw_tbl := lw_at lw_m17 99 rfl
theorem q4117 : (Jvm.Cond.instanceMethod ({ cls := "LandMapModel$Roads", name := "spread", desc := "(I)V" } : Jvm.MethodName)) ∈ lw_all := lw_g (lw_at lw_m17 100 rfl) rfl
theorem q4118 : (Jvm.Cond.code ({ cls := "LandMapModel$Roads", name := "spread", desc := "(I)V" } : Jvm.MethodName) prog_37_method_12_code (6 : Nat) (Option.none : Option Jvm.ClassFile.FieldType)) ∈ lw_all := lw_g (lw_at lw_m17 101 rfl) rfl
theorem q4119 : (Jvm.Cond.methodLink "LandMapModel$Roads" (185 : Nat) ({ cls := "LandMapModel$Roads", name := "known", desc := "(IJI)V" } : Jvm.MethodName)) ∈ lw_all := lw_g (lw_at lw_m17 102 rfl) rfl
theorem q4120 : (Jvm.Cond.privateMethod ({ cls := "LandMapModel$Roads", name := "known", desc := "(IJI)V" } : Jvm.MethodName)) ∈ lw_tbl := lw_at lw_m17 103 rfl
theorem q4121 : (Jvm.Cond.instanceMethod ({ cls := "LandMapModel$Roads", name := "known", desc := "(IJI)V" } : Jvm.MethodName)) ∈ lw_all := lw_g (lw_at lw_m17 104 rfl) rfl
theorem q4122 : (Jvm.Cond.code ({ cls := "LandMapModel$Roads", name := "known", desc := "(IJI)V" } : Jvm.MethodName) prog_37_method_8_code (5 : Nat) (Option.none : Option Jvm.ClassFile.FieldType)) ∈ lw_all := lw_g (lw_at lw_m17 105 rfl) rfl
theorem q4123 : (Jvm.Cond.methodLink "LandMapModel$Roads" (135 : Nat) ({ cls := "LandMapModel$Roads", name := "push", desc := "(I)V" } : Jvm.MethodName)) ∈ lw_all := lw_g (lw_at lw_m17 106 rfl) rfl
theorem q4124 : (Jvm.Cond.privateMethod ({ cls := "LandMapModel$Roads", name := "push", desc := "(I)V" } : Jvm.MethodName)) ∈ lw_tbl := lw_at lw_m17 107 rfl
theorem q4125 : (Jvm.Cond.instanceMethod ({ cls := "LandMapModel$Roads", name := "push", desc := "(I)V" } : Jvm.MethodName)) ∈ lw_all := lw_g (lw_at lw_m17 108 rfl) rfl
theorem q4126 : (Jvm.Cond.code ({ cls := "LandMapModel$Roads", name := "push", desc := "(I)V" } : Jvm.MethodName) prog_37_method_6_code (3 : Nat) (Option.none : Option Jvm.ClassFile.FieldType)) ∈ lw_all := lw_g (lw_at lw_m17 109 rfl) rfl
theorem q4127 : (Jvm.Cond.methodLink "LandMapModel$Roads" (131 : Nat) ({ cls := "LandMapModel$Roads", name := "isLess", desc := "(II)Z" } : Jvm.MethodName)) ∈ lw_all := lw_g (lw_at lw_m17 110 rfl) rfl
theorem q4128 : (Jvm.Cond.privateMethod ({ cls := "LandMapModel$Roads", name := "isLess", desc := "(II)Z" } : Jvm.MethodName)) ∈ lw_tbl := lw_at lw_m17 111 rfl
theorem q4129 : (Jvm.Cond.instanceMethod ({ cls := "LandMapModel$Roads", name := "isLess", desc := "(II)Z" } : Jvm.MethodName)) ∈ lw_all := lw_g (lw_at lw_m17 112 rfl) rfl
theorem q4130 : (Jvm.Cond.code ({ cls := "LandMapModel$Roads", name := "isLess", desc := "(II)Z" } : Jvm.MethodName) prog_37_method_5_code (3 : Nat) (Option.some Jvm.ClassFile.FieldType.boolean)) ∈ lw_all := lw_g (lw_at lw_m17 113 rfl) rfl
theorem q4131 : (Jvm.Cond.methodLink "LandMapModel$Roads" (189 : Nat) ({ cls := "LandMapModel$Roads", name := "pull", desc := "()I" } : Jvm.MethodName)) ∈ lw_all := lw_g (lw_at lw_m17 114 rfl) rfl
theorem q4132 : (Jvm.Cond.privateMethod ({ cls := "LandMapModel$Roads", name := "pull", desc := "()I" } : Jvm.MethodName)) ∈ lw_tbl := lw_at lw_m17 115 rfl
theorem q4133 : (Jvm.Cond.instanceMethod ({ cls := "LandMapModel$Roads", name := "pull", desc := "()I" } : Jvm.MethodName)) ∈ lw_all := lw_g (lw_at lw_m17 116 rfl) rfl
theorem q4134 : (Jvm.Cond.code ({ cls := "LandMapModel$Roads", name := "pull", desc := "()I" } : Jvm.MethodName) prog_37_method_7_code (6 : Nat) (Option.some Jvm.ClassFile.FieldType.int)) ∈ lw_all := lw_g (lw_at lw_m17 117 rfl) rfl
theorem q4135 : (Jvm.Cond.methodLink "LandMapModel$Roads" (178 : Nat) ({ cls := "LandMapModel$Net", name := "start", desc := "(I)I" } : Jvm.MethodName)) ∈ lw_all := lw_g (lw_at lw_m17 118 rfl) rfl
theorem q4136 : (Jvm.Cond.methodLink "LandMapModel$Roads" (172 : Nat) ({ cls := "LandMapModel$Net", name := "end", desc := "(I)I" } : Jvm.MethodName)) ∈ lw_all := lw_g (lw_at lw_m17 119 rfl) rfl
theorem q4137 : (Jvm.Cond.methodLink "LandMapModel$Roads" (181 : Nat) ({ cls := "LandMapModel$Roads", name := "isBarred", desc := "(III)Z" } : Jvm.MethodName)) ∈ lw_all := lw_g (lw_at lw_m17 120 rfl) rfl
theorem q4138 : (Jvm.Cond.privateMethod ({ cls := "LandMapModel$Roads", name := "isBarred", desc := "(III)Z" } : Jvm.MethodName)) ∈ lw_tbl := lw_at lw_m17 121 rfl
theorem q4139 : (Jvm.Cond.instanceMethod ({ cls := "LandMapModel$Roads", name := "isBarred", desc := "(III)Z" } : Jvm.MethodName)) ∈ lw_all := lw_g (lw_at lw_m17 122 rfl) rfl
theorem q4140 : (Jvm.Cond.code ({ cls := "LandMapModel$Roads", name := "isBarred", desc := "(III)Z" } : Jvm.MethodName) prog_37_method_4_code (5 : Nat) (Option.some Jvm.ClassFile.FieldType.boolean)) ∈ lw_all := lw_g (lw_at lw_m17 123 rfl) rfl
theorem q4141 : (Jvm.Cond.methodLink "LandMapModel$Roads" (167 : Nat) ({ cls := "LandMapModel$Roads", name := "better", desc := "(II)I" } : Jvm.MethodName)) ∈ lw_all := lw_g (lw_at lw_m17 124 rfl) rfl
theorem q4142 : (Jvm.Cond.privateMethod ({ cls := "LandMapModel$Roads", name := "better", desc := "(II)I" } : Jvm.MethodName)) ∈ lw_tbl := lw_at lw_m17 125 rfl
theorem q4143 : (Jvm.Cond.instanceMethod ({ cls := "LandMapModel$Roads", name := "better", desc := "(II)I" } : Jvm.MethodName)) ∈ lw_all := lw_g (lw_at lw_m17 126 rfl) rfl
theorem q4144 : (Jvm.Cond.code ({ cls := "LandMapModel$Roads", name := "better", desc := "(II)I" } : Jvm.MethodName) prog_37_method_10_code (3 : Nat) (Option.some Jvm.ClassFile.FieldType.int)) ∈ lw_all := lw_g (lw_at lw_m17 127 rfl) rfl
theorem q4145 : (Jvm.Cond.constantLong "LandMapModel$Roads" (170 : Nat) (-3 : Int64)) ∈ lw_all := lw_g (lw_at lw_m17 128 rfl) rfl
theorem q4146 : (Jvm.Cond.methodLink "LandMapModel$Roads" (175 : Nat) ({ cls := "LandMapModel$Roads", name := "onward", desc := "(I)I" } : Jvm.MethodName)) ∈ lw_all := lw_g (lw_at lw_m17 129 rfl) rfl
theorem q4147 : (Jvm.Cond.privateMethod ({ cls := "LandMapModel$Roads", name := "onward", desc := "(I)I" } : Jvm.MethodName)) ∈ lw_tbl := lw_at lw_m17 130 rfl
theorem q4148 : (Jvm.Cond.instanceMethod ({ cls := "LandMapModel$Roads", name := "onward", desc := "(I)I" } : Jvm.MethodName)) ∈ lw_all := lw_g (lw_at lw_m17 131 rfl) rfl
theorem q4149 : (Jvm.Cond.code ({ cls := "LandMapModel$Roads", name := "onward", desc := "(I)I" } : Jvm.MethodName) prog_37_method_11_code (6 : Nat) (Option.some Jvm.ClassFile.FieldType.int)) ∈ lw_all := lw_g (lw_at lw_m17 132 rfl) rfl
theorem q4150 : (Jvm.Cond.methodLink "LandMapModel" (410 : Nat) ({ cls := "LandMapModel$Ints", name := "add", desc := "(I)V" } : Jvm.MethodName)) ∈ lw_all := lw_g (lw_at lw_m17 133 rfl) rfl
theorem q4151 : (Jvm.Cond.methodLink "LandMapLaw" (144 : Nat) ({ cls := "LandMapModel", name := "routeNode", desc := "(I)I" } : Jvm.MethodName)) ∈ lw_all := lw_g (lw_at lw_m17 134 rfl) rfl
theorem q4152 : (Jvm.Cond.instanceMethod ({ cls := "LandMapModel", name := "routeNode", desc := "(I)I" } : Jvm.MethodName)) ∈ lw_all := lw_g (lw_at lw_m17 135 rfl) rfl
theorem q4153 : (Jvm.Cond.selects "LandMapModel" ({ cls := "LandMapModel", name := "routeNode", desc := "(I)I" } : Jvm.MethodName) ({ cls := "LandMapModel", name := "routeNode", desc := "(I)I" } : Jvm.MethodName)) ∈ lw_all := lw_g (lw_at lw_m17 136 rfl) rfl
theorem q4154 : (Jvm.Cond.code ({ cls := "LandMapModel", name := "routeNode", desc := "(I)I" } : Jvm.MethodName) prog_26_method_52_code (2 : Nat) (Option.some Jvm.ClassFile.FieldType.int)) ∈ lw_all := lw_g (lw_at lw_m17 137 rfl) rfl
theorem q4155 : (Jvm.Cond.methodLink "LandMapLaw" (148 : Nat) ({ cls := "LandMapModel", name := "corner", desc := "(II)Z" } : Jvm.MethodName)) ∈ lw_all := lw_g (lw_at lw_m17 138 rfl) rfl
theorem q4156 : (Jvm.Cond.instanceMethod ({ cls := "LandMapModel", name := "corner", desc := "(II)Z" } : Jvm.MethodName)) ∈ lw_all := lw_g (lw_at lw_m17 139 rfl) rfl
theorem q4157 : (Jvm.Cond.selects "LandMapModel" ({ cls := "LandMapModel", name := "corner", desc := "(II)Z" } : Jvm.MethodName) ({ cls := "LandMapModel", name := "corner", desc := "(II)Z" } : Jvm.MethodName)) ∈ lw_all := lw_g (lw_at lw_m17 140 rfl) rfl
theorem q4158 : (Jvm.Cond.code ({ cls := "LandMapModel", name := "corner", desc := "(II)Z" } : Jvm.MethodName) prog_26_method_53_code (3 : Nat) (Option.some Jvm.ClassFile.FieldType.boolean)) ∈ lw_all := lw_g (lw_at lw_m17 141 rfl) rfl
theorem q4159 : (Jvm.Cond.methodLink "LandMapLaw" (152 : Nat) ({ cls := "LandMapModel", name := "raster", desc := "(III)I" } : Jvm.MethodName)) ∈ lw_all := lw_g (lw_at lw_m17 142 rfl) rfl
theorem q4160 : (Jvm.Cond.instanceMethod ({ cls := "LandMapModel", name := "raster", desc := "(III)I" } : Jvm.MethodName)) ∈ lw_all := lw_g (lw_at lw_m17 143 rfl) rfl
theorem q4161 : (Jvm.Cond.selects "LandMapModel" ({ cls := "LandMapModel", name := "raster", desc := "(III)I" } : Jvm.MethodName) ({ cls := "LandMapModel", name := "raster", desc := "(III)I" } : Jvm.MethodName)) ∈ lw_all := lw_g (lw_at lw_m17 144 rfl) rfl
theorem q4162 : (Jvm.Cond.code ({ cls := "LandMapModel", name := "raster", desc := "(III)I" } : Jvm.MethodName) prog_26_method_55_code (11 : Nat) (Option.some Jvm.ClassFile.FieldType.int)) ∈ lw_all := lw_g (lw_at lw_m17 145 rfl) rfl
theorem q4163 : (Jvm.Cond.instantiable "LandMapModel$Raster" (4 : Nat)) ∈ lw_all := lw_g (lw_at lw_m17 146 rfl) rfl
theorem q4164 : (Jvm.Cond.methodLink "LandMapModel" (421 : Nat) ({ cls := "LandMapModel$Raster", name := "<init>", desc := "(II)V" } : Jvm.MethodName)) ∈ lw_all := lw_g (lw_at lw_m17 147 rfl) rfl
theorem q4165 : (Jvm.Cond.instanceMethod ({ cls := "LandMapModel$Raster", name := "<init>", desc := "(II)V" } : Jvm.MethodName)) ∈ lw_all := lw_g (lw_at lw_m17 148 rfl) rfl
theorem q4166 : (Jvm.Cond.code ({ cls := "LandMapModel$Raster", name := "<init>", desc := "(II)V" } : Jvm.MethodName) prog_35_method_1_code (3 : Nat) (Option.none : Option Jvm.ClassFile.FieldType)) ∈ lw_all := lw_g (lw_at lw_m17 149 rfl) rfl
theorem q4167 : (Jvm.Cond.methodLink "LandMapModel$Raster" (1 : Nat) ({ cls := "java/lang/Object", name := "<init>", desc := "()V" } : Jvm.MethodName)) ∈ lw_all := lw_g (lw_at lw_m17 150 rfl) rfl
theorem q4168 : (Jvm.Cond.fieldLink "LandMapModel$Raster" (7 : Nat) "LandMapModel$Raster" "w" "I") ∈ lw_all := lw_g (lw_at lw_m17 151 rfl) rfl
theorem q4169 : (Jvm.Cond.fieldLink "LandMapModel$Worker" (58 : Nat) "LandMapModel$Raster" "w" "I") ∈ lw_all := lw_g (lw_at lw_m17 152 rfl) rfl
theorem q4170 : (Jvm.Cond.fieldLink "LandMapModel$Spread" (30 : Nat) "LandMapModel$Raster" "w" "I") ∈ lw_all := lw_g (lw_at lw_m17 153 rfl) rfl
theorem q4171 : (Jvm.Cond.fieldLink "LandMapModel" (443 : Nat) "LandMapModel$Raster" "w" "I") ∈ lw_all := lw_g (lw_at lw_m17 154 rfl) rfl
theorem q4172 : (Jvm.Cond.fieldLink "LandMapModel$Raster" (13 : Nat) "LandMapModel$Raster" "h" "I") ∈ lw_all := lw_g (lw_at lw_m17 155 rfl) rfl
theorem q4173 : (Jvm.Cond.fieldLink "LandMapModel$Worker" (61 : Nat) "LandMapModel$Raster" "h" "I") ∈ lw_all := lw_g (lw_at lw_m17 156 rfl) rfl
theorem q4174 : (Jvm.Cond.fieldLink "LandMapModel$Spread" (40 : Nat) "LandMapModel$Raster" "h" "I") ∈ lw_all := lw_g (lw_at lw_m17 157 rfl) rfl
theorem q4175 : (Jvm.Cond.fieldLink "LandMapModel" (446 : Nat) "LandMapModel$Raster" "h" "I") ∈ lw_all := lw_g (lw_at lw_m17 158 rfl) rfl
theorem q4176 : (Jvm.Cond.fieldLink "LandMapModel$Raster" (16 : Nat) "LandMapModel$Raster" "cells" "[I") ∈ lw_all := lw_g (lw_at lw_m17 159 rfl) rfl
theorem q4177 : (Jvm.Cond.fieldLink "LandMapModel$Spread" (13 : Nat) "LandMapModel$Raster" "cells" "[I") ∈ lw_all := lw_g (lw_at lw_m17 160 rfl) rfl
theorem q4178 : (Jvm.Cond.fieldLink "LandMapModel$Worker" (41 : Nat) "LandMapModel$Raster" "cells" "[I") ∈ lw_all := lw_g (lw_at lw_m17 161 rfl) rfl
theorem q4179 : (Jvm.Cond.fieldLink "LandMapModel" (430 : Nat) "LandMapModel$Raster" "cells" "[I") ∈ lw_all := lw_g (lw_at lw_m17 162 rfl) rfl
theorem q4180 : (Jvm.Cond.fieldLink "LandMapModel$Raster" (20 : Nat) "LandMapModel$Raster" "isBlank" "[Z") ∈ lw_all := lw_g (lw_at lw_m17 163 rfl) rfl
theorem q4181 : (Jvm.Cond.fieldLink "LandMapModel$Spread" (23 : Nat) "LandMapModel$Raster" "isBlank" "[Z") ∈ lw_all := lw_g (lw_at lw_m17 164 rfl) rfl
theorem q4182 : (Jvm.Cond.fieldLink "LandMapModel$Worker" (68 : Nat) "LandMapModel$Raster" "isBlank" "[Z") ∈ lw_all := lw_g (lw_at lw_m17 165 rfl) rfl
theorem q4183 : (Jvm.Cond.fieldLink "LandMapModel" (426 : Nat) "LandMapModel$Raster" "isBlank" "[Z") ∈ lw_all := lw_g (lw_at lw_m17 166 rfl) rfl
theorem q4184 : (Jvm.Cond.laysFinal "LandMapModel$Raster" "LandMapModel$Raster" "w" "I") ∈ lw_all := lw_g (lw_at lw_m17 167 rfl) rfl
theorem q4185 : (Jvm.Cond.soleField "LandMapModel$Raster" "w") ∈ lw_all := lw_g (lw_at lw_m17 168 rfl) rfl
theorem q4186 : (Jvm.Cond.laysFinal "LandMapModel$Raster" "LandMapModel$Raster" "h" "I") ∈ lw_all := lw_g (lw_at lw_m17 169 rfl) rfl
theorem q4187 : (Jvm.Cond.soleField "LandMapModel$Raster" "h") ∈ lw_all := lw_g (lw_at lw_m17 170 rfl) rfl
theorem q4188 : (Jvm.Cond.laysFinal "LandMapModel$Raster" "LandMapModel$Raster" "cells" "[I") ∈ lw_all := lw_g (lw_at lw_m17 171 rfl) rfl
theorem q4189 : (Jvm.Cond.soleField "LandMapModel$Raster" "cells") ∈ lw_all := lw_g (lw_at lw_m17 172 rfl) rfl
theorem q4190 : (Jvm.Cond.laysFinal "LandMapModel$Raster" "LandMapModel$Raster" "isBlank" "[Z") ∈ lw_all := lw_g (lw_at lw_m17 173 rfl) rfl
theorem q4191 : (Jvm.Cond.soleField "LandMapModel$Raster" "isBlank") ∈ lw_all := lw_g (lw_at lw_m17 174 rfl) rfl
theorem q4192 : (Jvm.Cond.superclass "LandMapModel$Raster" "java/lang/Object") ∈ lw_all := lw_g (lw_at lw_m17 175 rfl) rfl
theorem q4193 : (Jvm.Cond.methodLink "LandMapModel" (424 : Nat) ({ cls := "LandMapModel$Places", name := "find", desc := "(II)I" } : Jvm.MethodName)) ∈ lw_all := lw_g (lw_at lw_m17 176 rfl) rfl
theorem q4194 : (Jvm.Cond.methodLink "LandMapModel" (436 : Nat) ({ cls := "LandMapModel", name := "kept", desc := "(LLandMapModel$Raster;)I" } : Jvm.MethodName)) ∈ lw_all := lw_g (lw_at lw_m17 177 rfl) rfl
theorem q4195 : (Jvm.Cond.privateMethod ({ cls := "LandMapModel", name := "kept", desc := "(LLandMapModel$Raster;)I" } : Jvm.MethodName)) ∈ lw_tbl := lw_at lw_m17 178 rfl
theorem q4196 : (Jvm.Cond.instanceMethod ({ cls := "LandMapModel", name := "kept", desc := "(LLandMapModel$Raster;)I" } : Jvm.MethodName)) ∈ lw_all := lw_g (lw_at lw_m17 179 rfl) rfl
theorem q4197 : (Jvm.Cond.code ({ cls := "LandMapModel", name := "kept", desc := "(LLandMapModel$Raster;)I" } : Jvm.MethodName) prog_26_method_54_code (2 : Nat) (Option.some Jvm.ClassFile.FieldType.int)) ∈ lw_all := lw_g (lw_at lw_m17 180 rfl) rfl
theorem q4198 : (Jvm.Cond.methodLink "LandMapLaw" (157 : Nat) ({ cls := "LandMapModel", name := "cell", desc := "(III)J" } : Jvm.MethodName)) ∈ lw_all := lw_g (lw_at lw_m17 181 rfl) rfl
theorem q4199 : (Jvm.Cond.instanceMethod ({ cls := "LandMapModel", name := "cell", desc := "(III)J" } : Jvm.MethodName)) ∈ lw_all := lw_g (lw_at lw_m17 182 rfl) rfl
theorem q4200 : (Jvm.Cond.selects "LandMapModel" ({ cls := "LandMapModel", name := "cell", desc := "(III)J" } : Jvm.MethodName) ({ cls := "LandMapModel", name := "cell", desc := "(III)J" } : Jvm.MethodName)) ∈ lw_all := lw_g (lw_at lw_m17 183 rfl) rfl
theorem q4201 : (Jvm.Cond.code ({ cls := "LandMapModel", name := "cell", desc := "(III)J" } : Jvm.MethodName) prog_26_method_57_code (5 : Nat) (Option.some Jvm.ClassFile.FieldType.long)) ∈ lw_all := lw_g (lw_at lw_m17 184 rfl) rfl
theorem q4202 : (Jvm.Cond.methodLink "LandMapModel" (440 : Nat) ({ cls := "LandMapModel", name := "isRaster", desc := "(I)Z" } : Jvm.MethodName)) ∈ lw_all := lw_g (lw_at lw_m17 185 rfl) rfl
theorem q4203 : (Jvm.Cond.privateMethod ({ cls := "LandMapModel", name := "isRaster", desc := "(I)Z" } : Jvm.MethodName)) ∈ lw_tbl := lw_at lw_m17 186 rfl
theorem q4204 : (Jvm.Cond.instanceMethod ({ cls := "LandMapModel", name := "isRaster", desc := "(I)Z" } : Jvm.MethodName)) ∈ lw_all := lw_g (lw_at lw_m17 187 rfl) rfl
theorem q4205 : (Jvm.Cond.code ({ cls := "LandMapModel", name := "isRaster", desc := "(I)Z" } : Jvm.MethodName) prog_26_method_56_code (2 : Nat) (Option.some Jvm.ClassFile.FieldType.boolean)) ∈ lw_all := lw_g (lw_at lw_m17 188 rfl) rfl
theorem q4206 : (Jvm.Cond.constantLong "LandMapModel" (449 : Nat) (4000000000 : Int64)) ∈ lw_all := lw_g (lw_at lw_m17 189 rfl) rfl
theorem q4207 : (Jvm.Cond.constantLong "LandMapModel" (451 : Nat) (3000000000 : Int64)) ∈ lw_all := lw_g (lw_at lw_m17 190 rfl) rfl
theorem q4208 : (Jvm.Cond.methodLink "LandMapLaw" (161 : Nat) ({ cls := "LandMapModel", name := "rasterSize", desc := "(II)I" } : Jvm.MethodName)) ∈ lw_all := lw_g (lw_at lw_m17 191 rfl) rfl
theorem q4209 : (Jvm.Cond.instanceMethod ({ cls := "LandMapModel", name := "rasterSize", desc := "(II)I" } : Jvm.MethodName)) ∈ lw_all := lw_g (lw_at lw_m17 192 rfl) rfl
theorem q4210 : (Jvm.Cond.selects "LandMapModel" ({ cls := "LandMapModel", name := "rasterSize", desc := "(II)I" } : Jvm.MethodName) ({ cls := "LandMapModel", name := "rasterSize", desc := "(II)I" } : Jvm.MethodName)) ∈ lw_all := lw_g (lw_at lw_m17 193 rfl) rfl
theorem q4211 : (Jvm.Cond.code ({ cls := "LandMapModel", name := "rasterSize", desc := "(II)I" } : Jvm.MethodName) prog_26_method_58_code (5 : Nat) (Option.some Jvm.ClassFile.FieldType.int)) ∈ lw_all := lw_g (lw_at lw_m17 194 rfl) rfl
theorem q4212 : (Jvm.Cond.methodLink "LandMapLaw" (165 : Nat) ({ cls := "LandMapModel", name := "algebra", desc := "()I" } : Jvm.MethodName)) ∈ lw_all := lw_g (lw_at lw_m17 195 rfl) rfl
theorem q4213 : (Jvm.Cond.instanceMethod ({ cls := "LandMapModel", name := "algebra", desc := "()I" } : Jvm.MethodName)) ∈ lw_all := lw_g (lw_at lw_m17 196 rfl) rfl
theorem q4214 : (Jvm.Cond.selects "LandMapModel" ({ cls := "LandMapModel", name := "algebra", desc := "()I" } : Jvm.MethodName) ({ cls := "LandMapModel", name := "algebra", desc := "()I" } : Jvm.MethodName)) ∈ lw_all := lw_g (lw_at lw_m17 197 rfl) rfl
theorem q4215 : (Jvm.Cond.codeWith ({ cls := "LandMapModel", name := "algebra", desc := "()I" } : Jvm.MethodName) prog_26_method_59_code (4 : Nat) (Option.some Jvm.ClassFile.FieldType.int) [((40 : Nat), (44 : Nat), (47 : Nat), (210 : Nat))]) ∈ lw_all := lw_g (lw_at lw_m17 198 rfl) rfl
theorem q4216 : (Jvm.Cond.classLink "LandMapModel" (453 : Nat) "LandMapModel$Algebra") ∈ lw_all := lw_g (lw_at lw_m17 199 rfl) rfl
theorem q4217 : (Jvm.Cond.instantiable "LandMapModel$Algebra" (8 : Nat)) ∈ lw_all := lw_g (lw_at lw_m17 200 rfl) rfl
theorem q4218 : (Jvm.Cond.methodLink "LandMapModel" (455 : Nat) ({ cls := "LandMapModel$Algebra", name := "<init>", desc := "(LLandMapModel$Trouble;[BI[LLandMapModel$Raster;I)V" } : Jvm.MethodName)) ∈ lw_all := lw_g (lw_at lw_m17 201 rfl) rfl
theorem q4219 : (Jvm.Cond.instanceMethod ({ cls := "LandMapModel$Algebra", name := "<init>", desc := "(LLandMapModel$Trouble;[BI[LLandMapModel$Raster;I)V" } : Jvm.MethodName)) ∈ lw_all := lw_g (lw_at lw_m17 202 rfl) rfl
theorem q4220 : (Jvm.Cond.code ({ cls := "LandMapModel$Algebra", name := "<init>", desc := "(LLandMapModel$Trouble;[BI[LLandMapModel$Raster;I)V" } : Jvm.MethodName) prog_27_method_1_code (6 : Nat) (Option.none : Option Jvm.ClassFile.FieldType)) ∈ lw_all := lw_g (lw_at lw_m17 203 rfl) rfl
theorem q4221 : (Jvm.Cond.methodLink "LandMapModel$Algebra" (1 : Nat) ({ cls := "LandMapModel$Text", name := "<init>", desc := "(LLandMapModel$Trouble;[BI)V" } : Jvm.MethodName)) ∈ lw_all := lw_g (lw_at lw_m17 204 rfl) rfl
theorem q4222 : (Jvm.Cond.classLink "LandMapModel$Algebra" (7 : Nat) "LandMapModel$Ints") ∈ lw_all := lw_g (lw_at lw_m17 205 rfl) rfl
theorem q4223 : (Jvm.Cond.methodLinkNest "LandMapModel$Algebra" (9 : Nat) ({ cls := "LandMapModel$Ints", name := "<init>", desc := "()V" } : Jvm.MethodName) "LandMapModel") ∈ lw_tbl := lw_at lw_m17 206 rfl
theorem q4224 : (Jvm.Cond.fieldLink "LandMapModel$Algebra" (18 : Nat) "LandMapModel$Algebra" "rasters" "[LLandMapModel$Raster;") ∈ lw_all := lw_g (lw_at lw_m17 207 rfl) rfl
theorem q4225 : (Jvm.Cond.fieldLink "LandMapModel$Algebra" (22 : Nat) "LandMapModel$Algebra" "count" "I") ∈ lw_all := lw_g (lw_at lw_m17 208 rfl) rfl
theorem q4226 : (Jvm.Cond.fieldLink "LandMapModel$Algebra" (12 : Nat) "LandMapModel$Algebra" "todo" "LLandMapModel$Ints;") ∈ lw_all := lw_g (lw_at lw_m17 209 rfl) rfl
theorem q4227 : (Jvm.Cond.fieldLink "LandMapModel$Worker" (45 : Nat) "LandMapModel$Algebra" "todo" "LLandMapModel$Ints;") ∈ lw_all := lw_g (lw_at lw_m17 210 rfl) rfl
theorem q4228 : (Jvm.Cond.fieldLink "LandMapModel$Algebra" (42 : Nat) "LandMapModel$Algebra" "first" "LLandMapModel$Raster;") ∈ lw_all := lw_g (lw_at lw_m17 211 rfl) rfl
theorem q4229 : (Jvm.Cond.fieldLink "LandMapModel" (459 : Nat) "LandMapModel$Algebra" "first" "LLandMapModel$Raster;") ∈ lw_all := lw_g (lw_at lw_m17 212 rfl) rfl
theorem q4230 : (Jvm.Cond.laysFinal "LandMapModel$Algebra" "LandMapModel$Algebra" "rasters" "[LLandMapModel$Raster;") ∈ lw_all := lw_g (lw_at lw_m17 213 rfl) rfl
theorem q4231 : (Jvm.Cond.soleField "LandMapModel$Algebra" "rasters") ∈ lw_all := lw_g (lw_at lw_m17 214 rfl) rfl
theorem q4232 : (Jvm.Cond.laysFinal "LandMapModel$Algebra" "LandMapModel$Algebra" "count" "I") ∈ lw_all := lw_g (lw_at lw_m17 215 rfl) rfl
theorem q4233 : (Jvm.Cond.soleField "LandMapModel$Algebra" "count") ∈ lw_all := lw_g (lw_at lw_m17 216 rfl) rfl
theorem q4234 : (Jvm.Cond.laysFinal "LandMapModel$Algebra" "LandMapModel$Algebra" "todo" "LLandMapModel$Ints;") ∈ lw_all := lw_g (lw_at lw_m17 217 rfl) rfl
theorem q4235 : (Jvm.Cond.soleField "LandMapModel$Algebra" "todo") ∈ lw_all := lw_g (lw_at lw_m17 218 rfl) rfl
theorem q4236 : (Jvm.Cond.lays "LandMapModel$Algebra" "LandMapModel$Algebra" "first" "LLandMapModel$Raster;") ∈ lw_all := lw_g (lw_at lw_m17 219 rfl) rfl
theorem q4237 : (Jvm.Cond.soleField "LandMapModel$Algebra" "first") ∈ lw_all := lw_g (lw_at lw_m17 220 rfl) rfl
theorem q4238 : (Jvm.Cond.laysFinal "LandMapModel$Algebra" "LandMapModel$Text" "trouble" "LLandMapModel$Trouble;") ∈ lw_all := lw_g (lw_at lw_m17 221 rfl) rfl
theorem q4239 : (Jvm.Cond.laysFinal "LandMapModel$Algebra" "LandMapModel$Text" "bytes" "[B") ∈ lw_all := lw_g (lw_at lw_m17 222 rfl) rfl
theorem q4240 : (Jvm.Cond.laysFinal "LandMapModel$Algebra" "LandMapModel$Text" "size" "I") ∈ lw_all := lw_g (lw_at lw_m17 223 rfl) rfl
theorem q4241 : (Jvm.Cond.lays "LandMapModel$Algebra" "LandMapModel$Text" "at" "I") ∈ lw_all := lw_g (lw_at lw_m17 224 rfl) rfl
theorem q4242 : (Jvm.Cond.superclass "LandMapModel$Algebra" "LandMapModel$Text") ∈ lw_all := lw_g (lw_at lw_m17 225 rfl) rfl
theorem q4243 : (Jvm.Cond.methodLink "LandMapModel" (458 : Nat) ({ cls := "LandMapModel$Algebra", name := "read", desc := "()V" } : Jvm.MethodName)) ∈ lw_all := lw_g (lw_at lw_m17 226 rfl) rfl
theorem q4244 : (Jvm.Cond.instanceMethod ({ cls := "LandMapModel$Algebra", name := "read", desc := "()V" } : Jvm.MethodName)) ∈ lw_all := lw_g (lw_at lw_m17 227 rfl) rfl
theorem q4245 : (Jvm.Cond.selects "LandMapModel$Algebra" ({ cls := "LandMapModel$Algebra", name := "read", desc := "()V" } : Jvm.MethodName) ({ cls := "LandMapModel$Algebra", name := "read", desc := "()V" } : Jvm.MethodName)) ∈ lw_all := lw_g (lw_at lw_m17 228 rfl) rfl
theorem q4246 : (Jvm.Cond.code ({ cls := "LandMapModel$Algebra", name := "read", desc := "()V" } : Jvm.MethodName) prog_27_method_3_code (1 : Nat) (Option.none : Option Jvm.ClassFile.FieldType)) ∈ lw_all := lw_g (lw_at lw_m17 229 rfl) rfl
theorem q4247 : (Jvm.Cond.methodLink "LandMapModel$Algebra" (30 : Nat) ({ cls := "LandMapModel$Algebra", name := "whole", desc := "(I)V" } : Jvm.MethodName)) ∈ lw_all := lw_g (lw_at lw_m17 230 rfl) rfl
theorem q4248 : (Jvm.Cond.privateMethod ({ cls := "LandMapModel$Algebra", name := "whole", desc := "(I)V" } : Jvm.MethodName)) ∈ lw_tbl := lw_at lw_m17 231 rfl
theorem q4249 : (Jvm.Cond.instanceMethod ({ cls := "LandMapModel$Algebra", name := "whole", desc := "(I)V" } : Jvm.MethodName)) ∈ lw_all := lw_g (lw_at lw_m17 232 rfl) rfl
theorem q4250 : (Jvm.Cond.code ({ cls := "LandMapModel$Algebra", name := "whole", desc := "(I)V" } : Jvm.MethodName) prog_27_method_5_code (3 : Nat) (Option.none : Option Jvm.ClassFile.FieldType)) ∈ lw_all := lw_g (lw_at lw_m17 233 rfl) rfl
theorem q4251 : (Jvm.Cond.methodLink "LandMapModel$Algebra" (59 : Nat) ({ cls := "LandMapModel$Algebra", name := "compared", desc := "(I)V" } : Jvm.MethodName)) ∈ lw_all := lw_g (lw_at lw_m17 234 rfl) rfl
theorem q4252 : (Jvm.Cond.privateMethod ({ cls := "LandMapModel$Algebra", name := "compared", desc := "(I)V" } : Jvm.MethodName)) ∈ lw_tbl := lw_at lw_m17 235 rfl
theorem q4253 : (Jvm.Cond.instanceMethod ({ cls := "LandMapModel$Algebra", name := "compared", desc := "(I)V" } : Jvm.MethodName)) ∈ lw_all := lw_g (lw_at lw_m17 236 rfl) rfl
theorem q4254 : (Jvm.Cond.code ({ cls := "LandMapModel$Algebra", name := "compared", desc := "(I)V" } : Jvm.MethodName) prog_27_method_6_code (4 : Nat) (Option.none : Option Jvm.ClassFile.FieldType)) ∈ lw_all := lw_g (lw_at lw_m17 237 rfl) rfl
theorem q4255 : (Jvm.Cond.methodLink "LandMapModel$Algebra" (76 : Nat) ({ cls := "LandMapModel$Algebra", name := "sum", desc := "(I)V" } : Jvm.MethodName)) ∈ lw_all := lw_g (lw_at lw_m17 238 rfl) rfl
theorem q4256 : (Jvm.Cond.privateMethod ({ cls := "LandMapModel$Algebra", name := "sum", desc := "(I)V" } : Jvm.MethodName)) ∈ lw_tbl := lw_at lw_m17 239 rfl
theorem q4257 : (Jvm.Cond.instanceMethod ({ cls := "LandMapModel$Algebra", name := "sum", desc := "(I)V" } : Jvm.MethodName)) ∈ lw_all := lw_g (lw_at lw_m18 0 rfl) rfl
theorem q4258 : (Jvm.Cond.code ({ cls := "LandMapModel$Algebra", name := "sum", desc := "(I)V" } : Jvm.MethodName) prog_27_method_7_code (3 : Nat) (Option.none : Option Jvm.ClassFile.FieldType)) ∈ lw_all := lw_g (lw_at lw_m18 1 rfl) rfl
theorem q4259 : (Jvm.Cond.methodLink "LandMapModel$Algebra" (79 : Nat) ({ cls := "LandMapModel$Algebra", name := "product", desc := "(I)V" } : Jvm.MethodName)) ∈ lw_all := lw_g (lw_at lw_m18 2 rfl) rfl
theorem q4260 : (Jvm.Cond.privateMethod ({ cls := "LandMapModel$Algebra", name := "product", desc := "(I)V" } : Jvm.MethodName)) ∈ lw_tbl := lw_at lw_m18 3 rfl
theorem q4261 : (Jvm.Cond.instanceMethod ({ cls := "LandMapModel$Algebra", name := "product", desc := "(I)V" } : Jvm.MethodName)) ∈ lw_all := lw_g (lw_at lw_m18 4 rfl) rfl
theorem q4262 : (Jvm.Cond.code ({ cls := "LandMapModel$Algebra", name := "product", desc := "(I)V" } : Jvm.MethodName) prog_27_method_8_code (3 : Nat) (Option.none : Option Jvm.ClassFile.FieldType)) ∈ lw_all := lw_g (lw_at lw_m18 5 rfl) rfl
theorem q4263 : (Jvm.Cond.methodLink "LandMapModel$Algebra" (82 : Nat) ({ cls := "LandMapModel$Algebra", name := "unary", desc := "(I)V" } : Jvm.MethodName)) ∈ lw_all := lw_g (lw_at lw_m18 6 rfl) rfl
theorem q4264 : (Jvm.Cond.privateMethod ({ cls := "LandMapModel$Algebra", name := "unary", desc := "(I)V" } : Jvm.MethodName)) ∈ lw_tbl := lw_at lw_m18 7 rfl
theorem q4265 : (Jvm.Cond.instanceMethod ({ cls := "LandMapModel$Algebra", name := "unary", desc := "(I)V" } : Jvm.MethodName)) ∈ lw_all := lw_g (lw_at lw_m18 8 rfl) rfl
theorem q4266 : (Jvm.Cond.code ({ cls := "LandMapModel$Algebra", name := "unary", desc := "(I)V" } : Jvm.MethodName) prog_27_method_9_code (4 : Nat) (Option.none : Option Jvm.ClassFile.FieldType)) ∈ lw_all := lw_g (lw_at lw_m18 9 rfl) rfl
theorem q4267 : (Jvm.Cond.methodLink "LandMapModel$Algebra" (33 : Nat) ({ cls := "LandMapModel$Algebra", name := "blanks", desc := "()V" } : Jvm.MethodName)) ∈ lw_all := lw_g (lw_at lw_m18 10 rfl) rfl
theorem q4268 : (Jvm.Cond.sameMethod "LandMapModel$Algebra" "LandMapModel$Text" "blanks" "()V") ∈ lw_all := lw_g (lw_at lw_m18 11 rfl) rfl
theorem q4269 : (Jvm.Cond.selects "LandMapModel$Algebra" ({ cls := "LandMapModel$Algebra", name := "blanks", desc := "()V" } : Jvm.MethodName) ({ cls := "LandMapModel$Text", name := "blanks", desc := "()V" } : Jvm.MethodName)) ∈ lw_all := lw_g (lw_at lw_m18 12 rfl) rfl
theorem q4270 : (Jvm.Cond.methodLink "LandMapModel$Algebra" (62 : Nat) ({ cls := "LandMapModel$Algebra", name := "look", desc := "()I" } : Jvm.MethodName)) ∈ lw_all := lw_g (lw_at lw_m18 13 rfl) rfl
theorem q4271 : (Jvm.Cond.sameMethod "LandMapModel$Algebra" "LandMapModel$Text" "look" "()I") ∈ lw_all := lw_g (lw_at lw_m18 14 rfl) rfl
theorem q4272 : (Jvm.Cond.selects "LandMapModel$Algebra" ({ cls := "LandMapModel$Algebra", name := "look", desc := "()I" } : Jvm.MethodName) ({ cls := "LandMapModel$Text", name := "look", desc := "()I" } : Jvm.MethodName)) ∈ lw_all := lw_g (lw_at lw_m18 15 rfl) rfl
theorem q4273 : (Jvm.Cond.methodLink "LandMapModel$Algebra" (66 : Nat) ({ cls := "LandMapModel$Algebra", name := "deeper", desc := "(I)I" } : Jvm.MethodName)) ∈ lw_all := lw_g (lw_at lw_m18 16 rfl) rfl
theorem q4274 : (Jvm.Cond.privateMethod ({ cls := "LandMapModel$Algebra", name := "deeper", desc := "(I)I" } : Jvm.MethodName)) ∈ lw_tbl := lw_at lw_m18 17 rfl
theorem q4275 : (Jvm.Cond.instanceMethod ({ cls := "LandMapModel$Algebra", name := "deeper", desc := "(I)I" } : Jvm.MethodName)) ∈ lw_all := lw_g (lw_at lw_m18 18 rfl) rfl
theorem q4276 : (Jvm.Cond.code ({ cls := "LandMapModel$Algebra", name := "deeper", desc := "(I)I" } : Jvm.MethodName) prog_27_method_4_code (2 : Nat) (Option.some Jvm.ClassFile.FieldType.int)) ∈ lw_all := lw_g (lw_at lw_m18 19 rfl) rfl
theorem q4277 : (Jvm.Cond.methodLink "LandMapModel$Algebra" (55 : Nat) ({ cls := "LandMapModel$Algebra", name := "wrong", desc := "()Ljava/lang/IllegalStateException;" } : Jvm.MethodName)) ∈ lw_all := lw_g (lw_at lw_m18 20 rfl) rfl
theorem q4278 : (Jvm.Cond.sameMethod "LandMapModel$Algebra" "LandMapModel$Text" "wrong" "()Ljava/lang/IllegalStateException;") ∈ lw_all := lw_g (lw_at lw_m18 21 rfl) rfl
theorem q4279 : (Jvm.Cond.selects "LandMapModel$Algebra" ({ cls := "LandMapModel$Algebra", name := "wrong", desc := "()Ljava/lang/IllegalStateException;" } : Jvm.MethodName) ({ cls := "LandMapModel$Text", name := "wrong", desc := "()Ljava/lang/IllegalStateException;" } : Jvm.MethodName)) ∈ lw_all := lw_g (lw_at lw_m18 22 rfl) rfl
theorem q4280 : (Jvm.Cond.methodLink "LandMapModel$Algebra" (73 : Nat) ({ cls := "LandMapModel$Algebra", name := "add", desc := "(III)V" } : Jvm.MethodName)) ∈ lw_all := lw_g (lw_at lw_m18 23 rfl) rfl
theorem q4281 : (Jvm.Cond.privateMethod ({ cls := "LandMapModel$Algebra", name := "add", desc := "(III)V" } : Jvm.MethodName)) ∈ lw_tbl := lw_at lw_m18 24 rfl
theorem q4282 : (Jvm.Cond.instanceMethod ({ cls := "LandMapModel$Algebra", name := "add", desc := "(III)V" } : Jvm.MethodName)) ∈ lw_all := lw_g (lw_at lw_m18 25 rfl) rfl
theorem q4283 : (Jvm.Cond.code ({ cls := "LandMapModel$Algebra", name := "add", desc := "(III)V" } : Jvm.MethodName) prog_27_method_2_code (4 : Nat) (Option.none : Option Jvm.ClassFile.FieldType)) ∈ lw_all := lw_g (lw_at lw_m18 26 rfl) rfl
theorem q4284 : (Jvm.Cond.methodLink "LandMapModel$Algebra" (26 : Nat) ({ cls := "LandMapModel$Ints", name := "add", desc := "(I)V" } : Jvm.MethodName)) ∈ lw_all := lw_g (lw_at lw_m18 27 rfl) rfl
theorem q4285 : (Jvm.Cond.methodLink "LandMapModel$Algebra" (85 : Nat) ({ cls := "LandMapModel$Algebra", name := "isDigit", desc := "()Z" } : Jvm.MethodName)) ∈ lw_all := lw_g (lw_at lw_m18 28 rfl) rfl
theorem q4286 : (Jvm.Cond.sameMethod "LandMapModel$Algebra" "LandMapModel$Text" "isDigit" "()Z") ∈ lw_all := lw_g (lw_at lw_m18 29 rfl) rfl
theorem q4287 : (Jvm.Cond.selects "LandMapModel$Algebra" ({ cls := "LandMapModel$Algebra", name := "isDigit", desc := "()Z" } : Jvm.MethodName) ({ cls := "LandMapModel$Text", name := "isDigit", desc := "()Z" } : Jvm.MethodName)) ∈ lw_all := lw_g (lw_at lw_m18 30 rfl) rfl
theorem q4288 : (Jvm.Cond.methodLink "LandMapModel$Algebra" (89 : Nat) ({ cls := "LandMapModel$Algebra", name := "digits", desc := "()I" } : Jvm.MethodName)) ∈ lw_all := lw_g (lw_at lw_m18 31 rfl) rfl
theorem q4289 : (Jvm.Cond.sameMethod "LandMapModel$Algebra" "LandMapModel$Text" "digits" "()I") ∈ lw_all := lw_g (lw_at lw_m18 32 rfl) rfl
theorem q4290 : (Jvm.Cond.declares ({ cls := "LandMapModel$Text", name := "digits", desc := "()I" } : Jvm.MethodName)) ∈ lw_tbl := lw_at lw_m18 33 rfl
theorem q4291 : (Jvm.Cond.selects "LandMapModel$Algebra" ({ cls := "LandMapModel$Algebra", name := "digits", desc := "()I" } : Jvm.MethodName) ({ cls := "LandMapModel$Text", name := "digits", desc := "()I" } : Jvm.MethodName)) ∈ lw_all := lw_g (lw_at lw_m18 34 rfl) rfl
theorem q4292 : (Jvm.Cond.methodLink "LandMapModel$Algebra" (70 : Nat) ({ cls := "LandMapModel$Algebra", name := "must", desc := "(I)V" } : Jvm.MethodName)) ∈ lw_all := lw_g (lw_at lw_m18 35 rfl) rfl
theorem q4293 : (Jvm.Cond.sameMethod "LandMapModel$Algebra" "LandMapModel$Text" "must" "(I)V") ∈ lw_all := lw_g (lw_at lw_m18 36 rfl) rfl
theorem q4294 : (Jvm.Cond.selects "LandMapModel$Algebra" ({ cls := "LandMapModel$Algebra", name := "must", desc := "(I)V" } : Jvm.MethodName) ({ cls := "LandMapModel$Text", name := "must", desc := "(I)V" } : Jvm.MethodName)) ∈ lw_all := lw_g (lw_at lw_m18 37 rfl) rfl
theorem q4295 : (Jvm.Cond.methodLink "LandMapModel$Algebra" (92 : Nat) ({ cls := "LandMapModel$Algebra", name := "word", desc := "(I)V" } : Jvm.MethodName)) ∈ lw_all := lw_g (lw_at lw_m18 38 rfl) rfl
theorem q4296 : (Jvm.Cond.privateMethod ({ cls := "LandMapModel$Algebra", name := "word", desc := "(I)V" } : Jvm.MethodName)) ∈ lw_tbl := lw_at lw_m18 39 rfl
theorem q4297 : (Jvm.Cond.instanceMethod ({ cls := "LandMapModel$Algebra", name := "word", desc := "(I)V" } : Jvm.MethodName)) ∈ lw_all := lw_g (lw_at lw_m18 40 rfl) rfl
theorem q4298 : (Jvm.Cond.code ({ cls := "LandMapModel$Algebra", name := "word", desc := "(I)V" } : Jvm.MethodName) prog_27_method_11_code (8 : Nat) (Option.none : Option Jvm.ClassFile.FieldType)) ∈ lw_all := lw_g (lw_at lw_m18 41 rfl) rfl
theorem q4299 : (Jvm.Cond.methodLink "LandMapModel$Algebra" (110 : Nat) ({ cls := "LandMapModel$Algebra", name := "raster", desc := "(I)V" } : Jvm.MethodName)) ∈ lw_all := lw_g (lw_at lw_m18 42 rfl) rfl
theorem q4300 : (Jvm.Cond.privateMethod ({ cls := "LandMapModel$Algebra", name := "raster", desc := "(I)V" } : Jvm.MethodName)) ∈ lw_tbl := lw_at lw_m18 43 rfl
theorem q4301 : (Jvm.Cond.instanceMethod ({ cls := "LandMapModel$Algebra", name := "raster", desc := "(I)V" } : Jvm.MethodName)) ∈ lw_all := lw_g (lw_at lw_m18 44 rfl) rfl
theorem q4302 : (Jvm.Cond.code ({ cls := "LandMapModel$Algebra", name := "raster", desc := "(I)V" } : Jvm.MethodName) prog_27_method_13_code (3 : Nat) (Option.none : Option Jvm.ClassFile.FieldType)) ∈ lw_all := lw_g (lw_at lw_m18 45 rfl) rfl
theorem q4303 : (Jvm.Cond.methodLink "LandMapModel$Algebra" (124 : Nat) ({ cls := "LandMapModel$Raster", name := "isSized", desc := "(LLandMapModel$Raster;)Z" } : Jvm.MethodName)) ∈ lw_all := lw_g (lw_at lw_m18 46 rfl) rfl
theorem q4304 : (Jvm.Cond.instanceMethod ({ cls := "LandMapModel$Raster", name := "isSized", desc := "(LLandMapModel$Raster;)Z" } : Jvm.MethodName)) ∈ lw_all := lw_g (lw_at lw_m18 47 rfl) rfl
theorem q4305 : (Jvm.Cond.selects "LandMapModel$Raster" ({ cls := "LandMapModel$Raster", name := "isSized", desc := "(LLandMapModel$Raster;)Z" } : Jvm.MethodName) ({ cls := "LandMapModel$Raster", name := "isSized", desc := "(LLandMapModel$Raster;)Z" } : Jvm.MethodName)) ∈ lw_all := lw_g (lw_at lw_m18 48 rfl) rfl
theorem q4306 : (Jvm.Cond.code ({ cls := "LandMapModel$Raster", name := "isSized", desc := "(LLandMapModel$Raster;)Z" } : Jvm.MethodName) prog_35_method_2_code (2 : Nat) (Option.some Jvm.ClassFile.FieldType.boolean)) ∈ lw_all := lw_g (lw_at lw_m18 49 rfl) rfl
theorem q4307 : (Jvm.Cond.methodLink "LandMapModel$Algebra" (50 : Nat) ({ cls := "LandMapModel$Trouble", name := "at", desc := "(I)Ljava/lang/IllegalStateException;" } : Jvm.MethodName)) ∈ lw_all := lw_g (lw_at lw_m18 50 rfl) rfl
theorem q4308 : (Jvm.Cond.methodLink "LandMapModel$Algebra" (113 : Nat) ({ cls := "LandMapModel$Algebra", name := "name", desc := "(II)I" } : Jvm.MethodName)) ∈ lw_all := lw_g (lw_at lw_m18 51 rfl) rfl
theorem q4309 : (Jvm.Cond.privateMethod ({ cls := "LandMapModel$Algebra", name := "name", desc := "(II)I" } : Jvm.MethodName)) ∈ lw_tbl := lw_at lw_m18 52 rfl
theorem q4310 : (Jvm.Cond.instanceMethod ({ cls := "LandMapModel$Algebra", name := "name", desc := "(II)I" } : Jvm.MethodName)) ∈ lw_all := lw_g (lw_at lw_m18 53 rfl) rfl
theorem q4311 : (Jvm.Cond.code ({ cls := "LandMapModel$Algebra", name := "name", desc := "(II)I" } : Jvm.MethodName) prog_27_method_10_code (8 : Nat) (Option.some Jvm.ClassFile.FieldType.int)) ∈ lw_all := lw_g (lw_at lw_m18 54 rfl) rfl
theorem q4312 : (Jvm.Cond.stringRef "LandMapModel$Algebra" (95 : Nat) " min max or abs blank sum top low at ") ∈ lw_tbl := lw_at lw_m18 55 rfl
theorem q4313 : (Jvm.Cond.methodLink "LandMapModel$Algebra" (97 : Nat) ({ cls := "java/lang/String", name := "length", desc := "()I" } : Jvm.MethodName)) ∈ lw_all := lw_g (lw_at lw_m18 56 rfl) rfl
theorem q4314 : (Jvm.Cond.methodLink "LandMapModel$Algebra" (102 : Nat) ({ cls := "java/lang/String", name := "charAt", desc := "(I)C" } : Jvm.MethodName)) ∈ lw_all := lw_g (lw_at lw_m18 57 rfl) rfl
theorem q4315 : (Jvm.Cond.methodLink "LandMapModel$Algebra" (117 : Nat) ({ cls := "LandMapModel$Algebra", name := "bounded", desc := "(ZII)I" } : Jvm.MethodName)) ∈ lw_all := lw_g (lw_at lw_m18 58 rfl) rfl
theorem q4316 : (Jvm.Cond.privateMethod ({ cls := "LandMapModel$Algebra", name := "bounded", desc := "(ZII)I" } : Jvm.MethodName)) ∈ lw_tbl := lw_at lw_m18 59 rfl
theorem q4317 : (Jvm.Cond.instanceMethod ({ cls := "LandMapModel$Algebra", name := "bounded", desc := "(ZII)I" } : Jvm.MethodName)) ∈ lw_all := lw_g (lw_at lw_m18 60 rfl) rfl
theorem q4318 : (Jvm.Cond.code ({ cls := "LandMapModel$Algebra", name := "bounded", desc := "(ZII)I" } : Jvm.MethodName) prog_27_method_12_code (6 : Nat) (Option.some Jvm.ClassFile.FieldType.int)) ∈ lw_all := lw_g (lw_at lw_m18 61 rfl) rfl
theorem q4319 : (Jvm.Cond.methodLink "LandMapModel$Algebra" (121 : Nat) ({ cls := "LandMapModel$Algebra", name := "number", desc := "()I" } : Jvm.MethodName)) ∈ lw_all := lw_g (lw_at lw_m18 62 rfl) rfl
theorem q4320 : (Jvm.Cond.sameMethod "LandMapModel$Algebra" "LandMapModel$Text" "number" "()I") ∈ lw_all := lw_g (lw_at lw_m18 63 rfl) rfl
theorem q4321 : (Jvm.Cond.selects "LandMapModel$Algebra" ({ cls := "LandMapModel$Algebra", name := "number", desc := "()I" } : Jvm.MethodName) ({ cls := "LandMapModel$Text", name := "number", desc := "()I" } : Jvm.MethodName)) ∈ lw_all := lw_g (lw_at lw_m18 64 rfl) rfl
theorem q4322 : (Jvm.Cond.methodLink "LandMapModel" (463 : Nat) ({ cls := "LandMapModel$Worker", name := "work", desc := "(LLandMapModel$Algebra;[LLandMapModel$Raster;LLandMapModel$Raster;)V" } : Jvm.MethodName)) ∈ lw_all := lw_g (lw_at lw_m18 65 rfl) rfl
theorem q4323 : (Jvm.Cond.instanceMethod ({ cls := "LandMapModel$Worker", name := "work", desc := "(LLandMapModel$Algebra;[LLandMapModel$Raster;LLandMapModel$Raster;)V" } : Jvm.MethodName)) ∈ lw_all := lw_g (lw_at lw_m18 66 rfl) rfl
theorem q4324 : (Jvm.Cond.selects "LandMapModel$Worker" ({ cls := "LandMapModel$Worker", name := "work", desc := "(LLandMapModel$Algebra;[LLandMapModel$Raster;LLandMapModel$Raster;)V" } : Jvm.MethodName) ({ cls := "LandMapModel$Worker", name := "work", desc := "(LLandMapModel$Algebra;[LLandMapModel$Raster;LLandMapModel$Raster;)V" } : Jvm.MethodName)) ∈ lw_all := lw_g (lw_at lw_m18 67 rfl) rfl
theorem q4325 : (Jvm.Cond.code ({ cls := "LandMapModel$Worker", name := "work", desc := "(LLandMapModel$Algebra;[LLandMapModel$Raster;LLandMapModel$Raster;)V" } : Jvm.MethodName) prog_44_method_3_code (7 : Nat) (Option.none : Option Jvm.ClassFile.FieldType)) ∈ lw_all := lw_g (lw_at lw_m18 68 rfl) rfl
theorem q4326 : (Jvm.Cond.methodLink "LandMapModel$Worker" (64 : Nat) ({ cls := "LandMapModel$Worker", name := "done", desc := "(III[LLandMapModel$Raster;II)V" } : Jvm.MethodName)) ∈ lw_all := lw_g (lw_at lw_m18 69 rfl) rfl
theorem q4327 : (Jvm.Cond.privateMethod ({ cls := "LandMapModel$Worker", name := "done", desc := "(III[LLandMapModel$Raster;II)V" } : Jvm.MethodName)) ∈ lw_tbl := lw_at lw_m18 70 rfl
theorem q4328 : (Jvm.Cond.instanceMethod ({ cls := "LandMapModel$Worker", name := "done", desc := "(III[LLandMapModel$Raster;II)V" } : Jvm.MethodName)) ∈ lw_all := lw_g (lw_at lw_m18 71 rfl) rfl
theorem q4329 : (Jvm.Cond.code ({ cls := "LandMapModel$Worker", name := "done", desc := "(III[LLandMapModel$Raster;II)V" } : Jvm.MethodName) prog_44_method_4_code (10 : Nat) (Option.none : Option Jvm.ClassFile.FieldType)) ∈ lw_all := lw_g (lw_at lw_m18 72 rfl) rfl
theorem q4330 : (Jvm.Cond.methodLink "LandMapModel$Worker" (72 : Nat) ({ cls := "LandMapModel$Worker", name := "fresh", desc := "()LLandMapModel$Raster;" } : Jvm.MethodName)) ∈ lw_all := lw_g (lw_at lw_m18 73 rfl) rfl
theorem q4331 : (Jvm.Cond.privateMethod ({ cls := "LandMapModel$Worker", name := "fresh", desc := "()LLandMapModel$Raster;" } : Jvm.MethodName)) ∈ lw_tbl := lw_at lw_m18 74 rfl
theorem q4332 : (Jvm.Cond.instanceMethod ({ cls := "LandMapModel$Worker", name := "fresh", desc := "()LLandMapModel$Raster;" } : Jvm.MethodName)) ∈ lw_all := lw_g (lw_at lw_m18 75 rfl) rfl
theorem q4333 : (Jvm.Cond.code ({ cls := "LandMapModel$Worker", name := "fresh", desc := "()LLandMapModel$Raster;" } : Jvm.MethodName) prog_44_method_2_code (1 : Nat) (Option.some (Jvm.ClassFile.FieldType.object "LandMapModel$Raster"))) ∈ lw_all := lw_g (lw_at lw_m18 76 rfl) rfl
theorem q4334 : (Jvm.Cond.methodLink "LandMapModel$Worker" (20 : Nat) ({ cls := "java/util/ArrayList", name := "size", desc := "()I" } : Jvm.MethodName)) ∈ lw_all := lw_g (lw_at lw_m18 77 rfl) rfl
theorem q4335 : (Jvm.Cond.classLink "LandMapModel$Worker" (24 : Nat) "LandMapModel$Raster") ∈ lw_all := lw_g (lw_at lw_m18 78 rfl) rfl
theorem q4336 : (Jvm.Cond.methodLink "LandMapModel$Worker" (26 : Nat) ({ cls := "LandMapModel$Raster", name := "<init>", desc := "(II)V" } : Jvm.MethodName)) ∈ lw_all := lw_g (lw_at lw_m18 79 rfl) rfl
theorem q4337 : (Jvm.Cond.methodLink "LandMapModel$Worker" (29 : Nat) ({ cls := "java/util/ArrayList", name := "add", desc := "(Ljava/lang/Object;)Z" } : Jvm.MethodName)) ∈ lw_all := lw_g (lw_at lw_m18 80 rfl) rfl
theorem q4338 : (Jvm.Cond.methodLink "LandMapModel$Worker" (33 : Nat) ({ cls := "java/util/ArrayList", name := "get", desc := "(I)Ljava/lang/Object;" } : Jvm.MethodName)) ∈ lw_all := lw_g (lw_at lw_m18 81 rfl) rfl
theorem q4339 : (Jvm.Cond.methodLink "LandMapModel$Worker" (76 : Nat) ({ cls := "LandMapModel$Worker", name := "choose", desc := "(I)V" } : Jvm.MethodName)) ∈ lw_all := lw_g (lw_at lw_m18 82 rfl) rfl
theorem q4340 : (Jvm.Cond.privateMethod ({ cls := "LandMapModel$Worker", name := "choose", desc := "(I)V" } : Jvm.MethodName)) ∈ lw_tbl := lw_at lw_m18 83 rfl
theorem q4341 : (Jvm.Cond.instanceMethod ({ cls := "LandMapModel$Worker", name := "choose", desc := "(I)V" } : Jvm.MethodName)) ∈ lw_all := lw_g (lw_at lw_m18 84 rfl) rfl
theorem q4342 : (Jvm.Cond.code ({ cls := "LandMapModel$Worker", name := "choose", desc := "(I)V" } : Jvm.MethodName) prog_44_method_5_code (7 : Nat) (Option.none : Option Jvm.ClassFile.FieldType)) ∈ lw_all := lw_g (lw_at lw_m18 85 rfl) rfl
theorem q4343 : (Jvm.Cond.methodLink "LandMapModel$Worker" (80 : Nat) ({ cls := "LandMapModel$Worker", name := "around", desc := "(IIII)V" } : Jvm.MethodName)) ∈ lw_all := lw_g (lw_at lw_m18 86 rfl) rfl
theorem q4344 : (Jvm.Cond.privateMethod ({ cls := "LandMapModel$Worker", name := "around", desc := "(IIII)V" } : Jvm.MethodName)) ∈ lw_tbl := lw_at lw_m18 87 rfl
theorem q4345 : (Jvm.Cond.instanceMethod ({ cls := "LandMapModel$Worker", name := "around", desc := "(IIII)V" } : Jvm.MethodName)) ∈ lw_all := lw_g (lw_at lw_m18 88 rfl) rfl
theorem q4346 : (Jvm.Cond.code ({ cls := "LandMapModel$Worker", name := "around", desc := "(IIII)V" } : Jvm.MethodName) prog_44_method_9_code (14 : Nat) (Option.none : Option Jvm.ClassFile.FieldType)) ∈ lw_all := lw_g (lw_at lw_m18 89 rfl) rfl
theorem q4347 : (Jvm.Cond.methodLink "LandMapModel$Worker" (100 : Nat) ({ cls := "java/lang/Math", name := "max", desc := "(II)I" } : Jvm.MethodName)) ∈ lw_all := lw_g (lw_at lw_m18 90 rfl) rfl
theorem q4348 : (Jvm.Cond.methodLink "LandMapModel$Worker" (94 : Nat) ({ cls := "java/lang/Math", name := "min", desc := "(II)I" } : Jvm.MethodName)) ∈ lw_all := lw_g (lw_at lw_m18 91 rfl) rfl
theorem q4349 : (Jvm.Cond.methodLink "LandMapModel$Worker" (107 : Nat) ({ cls := "LandMapModel$Worker", name := "take", desc := "(LLandMapModel$Raster;I)V" } : Jvm.MethodName)) ∈ lw_all := lw_g (lw_at lw_m18 92 rfl) rfl
theorem q4350 : (Jvm.Cond.privateMethod ({ cls := "LandMapModel$Worker", name := "take", desc := "(LLandMapModel$Raster;I)V" } : Jvm.MethodName)) ∈ lw_tbl := lw_at lw_m18 93 rfl
theorem q4351 : (Jvm.Cond.instanceMethod ({ cls := "LandMapModel$Worker", name := "take", desc := "(LLandMapModel$Raster;I)V" } : Jvm.MethodName)) ∈ lw_all := lw_g (lw_at lw_m18 94 rfl) rfl
theorem q4352 : (Jvm.Cond.code ({ cls := "LandMapModel$Worker", name := "take", desc := "(LLandMapModel$Raster;I)V" } : Jvm.MethodName) prog_44_method_11_code (5 : Nat) (Option.none : Option Jvm.ClassFile.FieldType)) ∈ lw_all := lw_g (lw_at lw_m18 95 rfl) rfl
theorem q4353 : (Jvm.Cond.methodLink "LandMapModel$Worker" (84 : Nat) ({ cls := "LandMapModel$Worker", name := "beside", desc := "(IIII)V" } : Jvm.MethodName)) ∈ lw_all := lw_g (lw_at lw_m18 96 rfl) rfl
theorem q4354 : (Jvm.Cond.privateMethod ({ cls := "LandMapModel$Worker", name := "beside", desc := "(IIII)V" } : Jvm.MethodName)) ∈ lw_tbl := lw_at lw_m18 97 rfl
theorem q4355 : (Jvm.Cond.instanceMethod ({ cls := "LandMapModel$Worker", name := "beside", desc := "(IIII)V" } : Jvm.MethodName)) ∈ lw_all := lw_g (lw_at lw_m18 98 rfl) rfl
theorem q4356 : (Jvm.Cond.code ({ cls := "LandMapModel$Worker", name := "beside", desc := "(IIII)V" } : Jvm.MethodName) prog_44_method_10_code (12 : Nat) (Option.none : Option Jvm.ClassFile.FieldType)) ∈ lw_all := lw_g (lw_at lw_m18 99 rfl) rfl
theorem q4357 : (Jvm.Cond.methodLink "LandMapModel$Worker" (87 : Nat) ({ cls := "LandMapModel$Worker", name := "one", desc := "(II)V" } : Jvm.MethodName)) ∈ lw_all := lw_g (lw_at lw_m18 100 rfl) rfl
theorem q4358 : (Jvm.Cond.privateMethod ({ cls := "LandMapModel$Worker", name := "one", desc := "(II)V" } : Jvm.MethodName)) ∈ lw_tbl := lw_at lw_m18 101 rfl
theorem q4359 : (Jvm.Cond.instanceMethod ({ cls := "LandMapModel$Worker", name := "one", desc := "(II)V" } : Jvm.MethodName)) ∈ lw_all := lw_g (lw_at lw_m18 102 rfl) rfl
theorem q4360 : (Jvm.Cond.code ({ cls := "LandMapModel$Worker", name := "one", desc := "(II)V" } : Jvm.MethodName) prog_44_method_6_code (6 : Nat) (Option.none : Option Jvm.ClassFile.FieldType)) ∈ lw_all := lw_g (lw_at lw_m18 103 rfl) rfl
theorem q4361 : (Jvm.Cond.methodLink "LandMapModel$Worker" (90 : Nat) ({ cls := "LandMapModel$Worker", name := "two", desc := "(III)V" } : Jvm.MethodName)) ∈ lw_all := lw_g (lw_at lw_m18 104 rfl) rfl
theorem q4362 : (Jvm.Cond.privateMethod ({ cls := "LandMapModel$Worker", name := "two", desc := "(III)V" } : Jvm.MethodName)) ∈ lw_tbl := lw_at lw_m18 105 rfl
theorem q4363 : (Jvm.Cond.instanceMethod ({ cls := "LandMapModel$Worker", name := "two", desc := "(III)V" } : Jvm.MethodName)) ∈ lw_all := lw_g (lw_at lw_m18 106 rfl) rfl
theorem q4364 : (Jvm.Cond.code ({ cls := "LandMapModel$Worker", name := "two", desc := "(III)V" } : Jvm.MethodName) prog_44_method_7_code (9 : Nat) (Option.none : Option Jvm.ClassFile.FieldType)) ∈ lw_all := lw_g (lw_at lw_m18 107 rfl) rfl
theorem q4365 : (Jvm.Cond.methodLink "LandMapModel$Worker" (103 : Nat) ({ cls := "LandMapModel$Worker", name := "worked", desc := "(III)I" } : Jvm.MethodName)) ∈ lw_all := lw_g (lw_at lw_m18 108 rfl) rfl
theorem q4366 : (Jvm.Cond.static ({ cls := "LandMapModel$Worker", name := "worked", desc := "(III)I" } : Jvm.MethodName)) ∈ lw_all := lw_g (lw_at lw_m18 109 rfl) rfl
theorem q4367 : (Jvm.Cond.code ({ cls := "LandMapModel$Worker", name := "worked", desc := "(III)I" } : Jvm.MethodName) prog_44_method_8_code (3 : Nat) (Option.some Jvm.ClassFile.FieldType.int)) ∈ lw_all := lw_g (lw_at lw_m18 110 rfl) rfl
theorem q4368 : (Jvm.Cond.methodLink "LandMapLaw" (169 : Nat) ({ cls := "LandMapModel", name := "spread", desc := "(II)I" } : Jvm.MethodName)) ∈ lw_all := lw_g (lw_at lw_m18 111 rfl) rfl
theorem q4369 : (Jvm.Cond.instanceMethod ({ cls := "LandMapModel", name := "spread", desc := "(II)I" } : Jvm.MethodName)) ∈ lw_all := lw_g (lw_at lw_m18 112 rfl) rfl
theorem q4370 : (Jvm.Cond.selects "LandMapModel" ({ cls := "LandMapModel", name := "spread", desc := "(II)I" } : Jvm.MethodName) ({ cls := "LandMapModel", name := "spread", desc := "(II)I" } : Jvm.MethodName)) ∈ lw_all := lw_g (lw_at lw_m18 113 rfl) rfl
theorem q4371 : (Jvm.Cond.code ({ cls := "LandMapModel", name := "spread", desc := "(II)I" } : Jvm.MethodName) prog_26_method_60_code (4 : Nat) (Option.some Jvm.ClassFile.FieldType.int)) ∈ lw_all := lw_g (lw_at lw_m18 114 rfl) rfl
theorem q4372 : (Jvm.Cond.methodLink "LandMapModel" (466 : Nat) ({ cls := "LandMapModel$Raster", name := "isSized", desc := "(LLandMapModel$Raster;)Z" } : Jvm.MethodName)) ∈ lw_all := lw_g (lw_at lw_m18 115 rfl) rfl
theorem q4373 : (Jvm.Cond.methodLink "LandMapModel" (470 : Nat) ({ cls := "LandMapModel$Spread", name := "work", desc := "(LLandMapModel$Raster;LLandMapModel$Raster;LLandMapModel$Raster;)V" } : Jvm.MethodName)) ∈ lw_all := lw_g (lw_at lw_m18 116 rfl) rfl
theorem q4374 : (Jvm.Cond.instanceMethod ({ cls := "LandMapModel$Spread", name := "work", desc := "(LLandMapModel$Raster;LLandMapModel$Raster;LLandMapModel$Raster;)V" } : Jvm.MethodName)) ∈ lw_all := lw_g (lw_at lw_m18 117 rfl) rfl
theorem q4375 : (Jvm.Cond.selects "LandMapModel$Spread" ({ cls := "LandMapModel$Spread", name := "work", desc := "(LLandMapModel$Raster;LLandMapModel$Raster;LLandMapModel$Raster;)V" } : Jvm.MethodName) ({ cls := "LandMapModel$Spread", name := "work", desc := "(LLandMapModel$Raster;LLandMapModel$Raster;LLandMapModel$Raster;)V" } : Jvm.MethodName)) ∈ lw_all := lw_g (lw_at lw_m18 118 rfl) rfl
theorem q4376 : (Jvm.Cond.code ({ cls := "LandMapModel$Spread", name := "work", desc := "(LLandMapModel$Raster;LLandMapModel$Raster;LLandMapModel$Raster;)V" } : Jvm.MethodName) prog_39_method_2_code (8 : Nat) (Option.none : Option Jvm.ClassFile.FieldType)) ∈ lw_all := lw_g (lw_at lw_m18 119 rfl) rfl
theorem q4377 : (Jvm.Cond.methodLink "LandMapModel$Spread" (19 : Nat) ({ cls := "LandMapModel$Spread", name := "isBarred", desc := "(LLandMapModel$Raster;I)Z" } : Jvm.MethodName)) ∈ lw_all := lw_g (lw_at lw_m18 120 rfl) rfl
theorem q4378 : (Jvm.Cond.static ({ cls := "LandMapModel$Spread", name := "isBarred", desc := "(LLandMapModel$Raster;I)Z" } : Jvm.MethodName)) ∈ lw_all := lw_g (lw_at lw_m18 121 rfl) rfl
theorem q4379 : (Jvm.Cond.code ({ cls := "LandMapModel$Spread", name := "isBarred", desc := "(LLandMapModel$Raster;I)Z" } : Jvm.MethodName) prog_39_method_3_code (2 : Nat) (Option.some Jvm.ClassFile.FieldType.boolean)) ∈ lw_all := lw_g (lw_at lw_m18 122 rfl) rfl
theorem q4380 : (Jvm.Cond.methodLink "LandMapModel$Spread" (26 : Nat) ({ cls := "LandMapModel$Spread", name := "step", desc := "(LLandMapModel$Raster;LLandMapModel$Raster;I)V" } : Jvm.MethodName)) ∈ lw_all := lw_g (lw_at lw_m18 123 rfl) rfl
theorem q4381 : (Jvm.Cond.privateMethod ({ cls := "LandMapModel$Spread", name := "step", desc := "(LLandMapModel$Raster;LLandMapModel$Raster;I)V" } : Jvm.MethodName)) ∈ lw_tbl := lw_at lw_m18 124 rfl
theorem q4382 : (Jvm.Cond.instanceMethod ({ cls := "LandMapModel$Spread", name := "step", desc := "(LLandMapModel$Raster;LLandMapModel$Raster;I)V" } : Jvm.MethodName)) ∈ lw_all := lw_g (lw_at lw_m18 125 rfl) rfl
theorem q4383 : (Jvm.Cond.code ({ cls := "LandMapModel$Spread", name := "step", desc := "(LLandMapModel$Raster;LLandMapModel$Raster;I)V" } : Jvm.MethodName) prog_39_method_4_code (10 : Nat) (Option.none : Option Jvm.ClassFile.FieldType)) ∈ lw_all := lw_g (lw_at lw_m18 126 rfl) rfl
theorem q4384 : (Jvm.Cond.methodLink "LandMapModel$Spread" (34 : Nat) ({ cls := "java/lang/Math", name := "max", desc := "(II)I" } : Jvm.MethodName)) ∈ lw_all := lw_g (lw_at lw_m18 127 rfl) rfl
theorem q4385 : (Jvm.Cond.methodLink "LandMapModel$Spread" (43 : Nat) ({ cls := "java/lang/Math", name := "min", desc := "(II)I" } : Jvm.MethodName)) ∈ lw_all := lw_g (lw_at lw_m18 128 rfl) rfl
theorem q4386 : (Jvm.Cond.methodLink "LandMapLaw" (173 : Nat) ({ cls := "LandMapModel", name := "strays", desc := "()I" } : Jvm.MethodName)) ∈ lw_all := lw_g (lw_at lw_m18 129 rfl) rfl
theorem q4387 : (Jvm.Cond.instanceMethod ({ cls := "LandMapModel", name := "strays", desc := "()I" } : Jvm.MethodName)) ∈ lw_all := lw_g (lw_at lw_m18 130 rfl) rfl
theorem q4388 : (Jvm.Cond.selects "LandMapModel" ({ cls := "LandMapModel", name := "strays", desc := "()I" } : Jvm.MethodName) ({ cls := "LandMapModel", name := "strays", desc := "()I" } : Jvm.MethodName)) ∈ lw_all := lw_g (lw_at lw_m18 131 rfl) rfl
theorem q4389 : (Jvm.Cond.code ({ cls := "LandMapModel", name := "strays", desc := "()I" } : Jvm.MethodName) prog_26_method_61_code (6 : Nat) (Option.some Jvm.ClassFile.FieldType.int)) ∈ lw_all := lw_g (lw_at lw_m18 132 rfl) rfl
theorem q4390 : (Jvm.Cond.methodLink "LandMapModel" (473 : Nat) ({ cls := "LandMapModel", name := "isStray", desc := "(LLandMapModel$Net;II)Z" } : Jvm.MethodName)) ∈ lw_all := lw_g (lw_at lw_m18 133 rfl) rfl
theorem q4391 : (Jvm.Cond.static ({ cls := "LandMapModel", name := "isStray", desc := "(LLandMapModel$Net;II)Z" } : Jvm.MethodName)) ∈ lw_all := lw_g (lw_at lw_m18 134 rfl) rfl
theorem q4392 : (Jvm.Cond.code ({ cls := "LandMapModel", name := "isStray", desc := "(LLandMapModel$Net;II)Z" } : Jvm.MethodName) prog_26_method_62_code (8 : Nat) (Option.some Jvm.ClassFile.FieldType.boolean)) ∈ lw_all := lw_g (lw_at lw_m18 135 rfl) rfl
theorem q4393 : (Jvm.Cond.methodLink "LandMapModel" (480 : Nat) ({ cls := "LandMapModel", name := "meeting", desc := "(JJJJJJJJ)I" } : Jvm.MethodName)) ∈ lw_all := lw_g (lw_at lw_m18 136 rfl) rfl
theorem q4394 : (Jvm.Cond.methodLink "LandMapModel" (477 : Nat) ({ cls := "LandMapModel", name := "isOn", desc := "(JJJJJJ)Z" } : Jvm.MethodName)) ∈ lw_all := lw_g (lw_at lw_m18 137 rfl) rfl
theorem q4395 : (Jvm.Cond.sameMethod "java/lang/Throwable" "java/lang/Throwable" "fillInStackTrace" "(I)Ljava/lang/Throwable;") ∈ lw_all := lw_g (lw_at lw_m18 138 rfl) rfl
theorem q4396 : (Jvm.Cond.sameMethod "java/lang/AbstractStringBuilder" "java/lang/AbstractStringBuilder" "length" "()I") ∈ lw_all := lw_g (lw_at lw_m18 139 rfl) rfl
theorem q4397 : (Jvm.Cond.sameMethod "java/lang/AbstractStringBuilder" "java/lang/AbstractStringBuilder" "append" "(C)Ljava/lang/AbstractStringBuilder;") ∈ lw_all := lw_g (lw_at lw_m18 140 rfl) rfl
theorem q4398 : (Jvm.Cond.sameMethod "java/lang/AbstractStringBuilder" "java/lang/AbstractStringBuilder" "ensureCapacityInternal" "(I)V") ∈ lw_all := lw_g (lw_at lw_m18 141 rfl) rfl
theorem q4399 : (Jvm.Cond.sameMethod "java/lang/AbstractStringBuilder" "java/lang/AbstractStringBuilder" "newCapacity" "(I)I") ∈ lw_all := lw_g (lw_at lw_m18 142 rfl) rfl
theorem q4400 : (Jvm.Cond.sameMethod "java/lang/AbstractStringBuilder" "java/lang/AbstractStringBuilder" "inflate" "()V") ∈ lw_all := lw_g (lw_at lw_m18 143 rfl) rfl
theorem q4401 : (Jvm.Cond.selects "java/lang/StringBuilder" ({ cls := "java/lang/AbstractStringBuilder", name := "length", desc := "()I" } : Jvm.MethodName) ({ cls := "java/lang/StringBuilder", name := "length", desc := "()I" } : Jvm.MethodName)) ∈ lw_all := lw_g (lw_at lw_m18 144 rfl) rfl
theorem q4402 : (Jvm.Cond.sameMethod "LandMapModel$Text" "LandMapModel$Text" "blanks" "()V") ∈ lw_all := lw_g (lw_at lw_m18 145 rfl) rfl
theorem q4403 : (Jvm.Cond.selects "LandMapModel$Algebra" ({ cls := "LandMapModel$Text", name := "blanks", desc := "()V" } : Jvm.MethodName) ({ cls := "LandMapModel$Text", name := "blanks", desc := "()V" } : Jvm.MethodName)) ∈ lw_all := lw_g (lw_at lw_m18 146 rfl) rfl
theorem q4404 : (Jvm.Cond.selects "LandMapModel$FeatureText" ({ cls := "LandMapModel$Text", name := "blanks", desc := "()V" } : Jvm.MethodName) ({ cls := "LandMapModel$Text", name := "blanks", desc := "()V" } : Jvm.MethodName)) ∈ lw_all := lw_g (lw_at lw_m18 147 rfl) rfl
theorem q4405 : (Jvm.Cond.sameMethod "LandMapModel$Text" "LandMapModel$Text" "isDigit" "()Z") ∈ lw_all := lw_g (lw_at lw_m18 148 rfl) rfl
theorem q4406 : (Jvm.Cond.selects "LandMapModel$Algebra" ({ cls := "LandMapModel$Text", name := "isDigit", desc := "()Z" } : Jvm.MethodName) ({ cls := "LandMapModel$Text", name := "isDigit", desc := "()Z" } : Jvm.MethodName)) ∈ lw_all := lw_g (lw_at lw_m18 149 rfl) rfl
theorem q4407 : (Jvm.Cond.selects "LandMapModel$FeatureText" ({ cls := "LandMapModel$Text", name := "isDigit", desc := "()Z" } : Jvm.MethodName) ({ cls := "LandMapModel$Text", name := "isDigit", desc := "()Z" } : Jvm.MethodName)) ∈ lw_all := lw_g (lw_at lw_m18 150 rfl) rfl
theorem q4408 : (Jvm.Cond.castable "LandMap$Feature" "java/lang/Object") ∈ lw_tbl := lw_at lw_m18 151 rfl
theorem q4409 : (Jvm.Cond.castable "LandMap$Layer" "java/lang/Object") ∈ lw_tbl := lw_at lw_m18 152 rfl
theorem q4410 : (Jvm.Cond.castable "LandMapModel$Feature" "java/lang/Object") ∈ lw_tbl := lw_at lw_m18 153 rfl
theorem q4411 : (Jvm.Cond.castable "LandMapModel$Raster" "java/lang/Object") ∈ lw_tbl := lw_at lw_m18 154 rfl
theorem q4412 : (Jvm.Cond.castable "LandMap" "java/lang/Object") ∈ lw_tbl := lw_at lw_m18 155 rfl
theorem q4413 : (Jvm.Cond.castable "LandMap$Stop" "java/lang/Object") ∈ lw_tbl := lw_at lw_m18 156 rfl
theorem q4414 : (Jvm.Cond.castable "java/lang/IllegalStateException" "java/lang/Object") ∈ lw_tbl := lw_at lw_m18 157 rfl
theorem q4415 : (Jvm.Cond.castable "LandMap$Scan" "java/lang/Object") ∈ lw_tbl := lw_at lw_m18 158 rfl
theorem q4416 : (Jvm.Cond.castable "LandMap$FeatureTexts" "java/lang/Object") ∈ lw_tbl := lw_at lw_m18 159 rfl
theorem q4417 : (Jvm.Cond.castable "LandMap$Draft" "java/lang/Object") ∈ lw_tbl := lw_at lw_m18 160 rfl
theorem q4418 : (Jvm.Cond.castable "java/util/ArrayList" "java/lang/Object") ∈ lw_tbl := lw_at lw_m18 161 rfl
theorem q4419 : (Jvm.Cond.castable "LandMap$Rules" "java/lang/Object") ∈ lw_tbl := lw_at lw_m18 162 rfl
theorem q4420 : (Jvm.Cond.castable "LandMap$Edges" "java/lang/Object") ∈ lw_tbl := lw_at lw_m18 163 rfl
theorem q4421 : (Jvm.Cond.castable "LandMap$Sorter" "java/lang/Object") ∈ lw_tbl := lw_at lw_m18 164 rfl
theorem q4422 : (Jvm.Cond.castable "LandMap$Relation" "java/lang/Object") ∈ lw_tbl := lw_at lw_m18 165 rfl
theorem q4423 : (Jvm.Cond.castable "LandMap$Overlay" "java/lang/Object") ∈ lw_tbl := lw_at lw_m18 166 rfl
theorem q4424 : (Jvm.Cond.castable "LandMap$Roads" "java/lang/Object") ∈ lw_tbl := lw_at lw_m18 167 rfl
theorem q4425 : (Jvm.Cond.castable "LandMap$Heap" "java/lang/Object") ∈ lw_tbl := lw_at lw_m18 168 rfl
theorem q4426 : (Jvm.Cond.castable "LandMap$Laid" "java/lang/Object") ∈ lw_tbl := lw_at lw_m18 169 rfl
theorem q4427 : (Jvm.Cond.castable "LandMap$Plane" "java/lang/Object") ∈ lw_tbl := lw_at lw_m18 170 rfl
theorem q4428 : (Jvm.Cond.castable "LandMap$HotSet" "java/lang/Object") ∈ lw_tbl := lw_at lw_m18 171 rfl
theorem q4429 : (Jvm.Cond.castable "LandMap$Part" "java/lang/Object") ∈ lw_tbl := lw_at lw_m18 172 rfl
theorem q4430 : (Jvm.Cond.castable "LandMap$Faces" "java/lang/Object") ∈ lw_tbl := lw_at lw_m18 173 rfl
theorem q4431 : (Jvm.Cond.castable "LandMap$State" "java/lang/Object") ∈ lw_tbl := lw_at lw_m18 174 rfl
theorem q4432 : (Jvm.Cond.castable "LandMap$Algebra" "java/lang/Object") ∈ lw_tbl := lw_at lw_m18 175 rfl
theorem q4433 : (Jvm.Cond.castable "LandMap$Spread" "java/lang/Object") ∈ lw_tbl := lw_at lw_m18 176 rfl
theorem q4434 : (Jvm.Cond.castable "LandMapModel" "java/lang/Object") ∈ lw_tbl := lw_at lw_m18 177 rfl
theorem q4435 : (Jvm.Cond.castable "LandMapModel$Trouble" "java/lang/Object") ∈ lw_tbl := lw_at lw_m18 178 rfl
theorem q4436 : (Jvm.Cond.castable "LandMapModel$Rules" "java/lang/Object") ∈ lw_tbl := lw_at lw_m18 179 rfl
theorem q4437 : (Jvm.Cond.castable "LandMapModel$Net" "java/lang/Object") ∈ lw_tbl := lw_at lw_m18 180 rfl
theorem q4438 : (Jvm.Cond.castable "LandMapModel$Places" "java/lang/Object") ∈ lw_tbl := lw_at lw_m18 181 rfl
theorem q4439 : (Jvm.Cond.castable "LandMapModel$Steps" "java/lang/Object") ∈ lw_tbl := lw_at lw_m18 182 rfl
theorem q4440 : (Jvm.Cond.castable "LandMapModel$Ints" "java/lang/Object") ∈ lw_tbl := lw_at lw_m18 183 rfl
theorem q4441 : (Jvm.Cond.castable "LandMapModel$Laid" "java/lang/Object") ∈ lw_tbl := lw_at lw_m18 184 rfl
theorem q4442 : (Jvm.Cond.castable "LandMapModel$Overlay" "java/lang/Object") ∈ lw_tbl := lw_at lw_m18 185 rfl
theorem q4443 : (Jvm.Cond.castable "LandMapModel$Relation" "java/lang/Object") ∈ lw_tbl := lw_at lw_m18 186 rfl
theorem q4444 : (Jvm.Cond.castable "LandMapModel$Roads" "java/lang/Object") ∈ lw_tbl := lw_at lw_m18 187 rfl
theorem q4445 : (Jvm.Cond.castable "LandMapModel$Worker" "java/lang/Object") ∈ lw_tbl := lw_at lw_m18 188 rfl
theorem q4446 : (Jvm.Cond.castable "LandMapModel$Spread" "java/lang/Object") ∈ lw_tbl := lw_at lw_m18 189 rfl
theorem q4447 : (Jvm.Cond.castable "LandMapModel$State" "java/lang/Object") ∈ lw_tbl := lw_at lw_m18 190 rfl
theorem q4448 : (Jvm.Cond.castable "LandMapModel$FeatureText" "java/lang/Object") ∈ lw_tbl := lw_at lw_m18 191 rfl
theorem q4449 : (Jvm.Cond.castable "java/lang/Integer" "java/lang/Object") ∈ lw_tbl := lw_at lw_m18 192 rfl
theorem q4450 : (Jvm.Cond.castable "LandMap$Raster" "java/lang/Object") ∈ lw_tbl := lw_at lw_m18 193 rfl
theorem q4451 : (Jvm.Cond.castable "java/lang/StringBuilder" "java/lang/Object") ∈ lw_tbl := lw_at lw_m18 194 rfl
theorem q4452 : (Jvm.Cond.castable "java/lang/String" "java/lang/Object") ∈ lw_tbl := lw_at lw_m18 195 rfl
theorem q4453 : (Jvm.Cond.castable "java/lang/System$2" "java/lang/Object") ∈ lw_tbl := lw_at lw_m18 196 rfl
theorem q4454 : (Jvm.Cond.castable "LandMapModel$Algebra" "java/lang/Object") ∈ lw_tbl := lw_at lw_m18 197 rfl
theorem q4455 : (Jvm.Cond.castable "java/lang/Throwable" "java/lang/Object") ∈ lw_tbl := lw_at lw_m18 198 rfl
theorem q4456 : (Jvm.Cond.sameMethod "[Ljava/lang/Object;" "java/lang/Object" "getClass" "()Ljava/lang/Class;") ∈ lw_all := lw_g (lw_at lw_m18 199 rfl) rfl
theorem q4457 : (Jvm.Cond.selects "[Ljava/lang/Object;" ({ cls := "java/lang/Object", name := "getClass", desc := "()Ljava/lang/Class;" } : Jvm.MethodName) ({ cls := "java/lang/Object", name := "getClass", desc := "()Ljava/lang/Class;" } : Jvm.MethodName)) ∈ lw_all := lw_g (lw_at lw_m18 200 rfl) rfl
theorem q4458 : (Jvm.Cond.declares ({ cls := "java/lang/Object", name := "getClass", desc := "()Ljava/lang/Class;" } : Jvm.MethodName)) ∈ lw_tbl := lw_at lw_m18 201 rfl
theorem q4459 : (Jvm.Cond.castable "[B" "java/lang/Object") ∈ lw_tbl := lw_at lw_m18 202 rfl
theorem q4460 : (Jvm.Cond.castable "[I" "java/lang/Object") ∈ lw_tbl := lw_at lw_m18 203 rfl
theorem q4461 : (Jvm.Cond.castable "[Ljava/lang/Object;" "java/lang/Object") ∈ lw_tbl := lw_at lw_m18 204 rfl
theorem q4462 : (Jvm.Cond.castable "[J" "java/lang/Object") ∈ lw_tbl := lw_at lw_m18 205 rfl
theorem q4463 : (Jvm.Cond.castable "[Z" "java/lang/Object") ∈ lw_tbl := lw_at lw_m18 206 rfl
theorem q4464 : (Jvm.Cond.castable "[LLandMap$Feature;" "java/lang/Object") ∈ lw_tbl := lw_at lw_m18 207 rfl
theorem q4465 : (Jvm.Cond.castable "[LLandMap$Layer;" "java/lang/Object") ∈ lw_tbl := lw_at lw_m18 208 rfl
theorem q4466 : (Jvm.Cond.castable "[LLandMapModel$Feature;" "java/lang/Object") ∈ lw_tbl := lw_at lw_m18 209 rfl
theorem q4467 : (Jvm.Cond.castable "[[I" "java/lang/Object") ∈ lw_tbl := lw_at lw_m18 210 rfl
theorem q4468 : (Jvm.Cond.castable "[LLandMapModel$Raster;" "java/lang/Object") ∈ lw_tbl := lw_at lw_m18 211 rfl
theorem q4469 : (Jvm.Cond.castable "[[LLandMapModel$Feature;" "java/lang/Object") ∈ lw_tbl := lw_at lw_m18 212 rfl
theorem q4470 : (Jvm.Cond.arrayClass Jvm.ClassFile.FieldType.char) ∈ lw_all := lw_g (lw_at lw_m18 213 rfl) rfl
theorem q4471 : (Jvm.Cond.arrayClass Jvm.ClassFile.FieldType.short) ∈ lw_all := lw_g (lw_at lw_m18 214 rfl) rfl
