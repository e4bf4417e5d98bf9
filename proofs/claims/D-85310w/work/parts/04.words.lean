/-! the tables' words, by their places (out of claim/names) -/
set_option maxRecDepth 100000
theorem q121 : (Jvm.Cond.initialized "java/lang/Throwable") ∈ lw_all := lw_g (lw_at lw_m1 3 rfl) rfl
theorem q272 : (Jvm.Cond.declares ({ cls := "java/lang/Throwable", name := "<init>", desc := "()V" } : Jvm.MethodName)) ∈ lw_tbl := lw_at lw_m1 154 rfl
theorem q273 : (Jvm.Cond.declares ({ cls := "java/lang/Throwable", name := "<init>", desc := "(Ljava/lang/String;)V" } : Jvm.MethodName)) ∈ lw_tbl := lw_at lw_m1 155 rfl
theorem q277 : (Jvm.Cond.lays "java/lang/Throwable" "java/lang/Throwable" "cause" "Ljava/lang/Throwable;") ∈ lw_all := lw_g (lw_at lw_m1 159 rfl) rfl
theorem q279 : (Jvm.Cond.lays "java/lang/Throwable" "java/lang/Throwable" "stackTrace" "[Ljava/lang/StackTraceElement;") ∈ lw_all := lw_g (lw_at lw_m1 161 rfl) rfl
theorem q281 : (Jvm.Cond.lays "java/lang/Throwable" "java/lang/Throwable" "suppressedExceptions" "Ljava/util/List;") ∈ lw_all := lw_g (lw_at lw_m1 163 rfl) rfl
theorem q283 : (Jvm.Cond.lays "java/lang/Throwable" "java/lang/Throwable" "detailMessage" "Ljava/lang/String;") ∈ lw_all := lw_g (lw_at lw_m1 165 rfl) rfl
theorem q285 : (Jvm.Cond.lays "java/lang/Throwable" "java/lang/Throwable" "backtrace" "Ljava/lang/Object;") ∈ lw_all := lw_g (lw_at lw_m1 167 rfl) rfl
theorem q286 : (Jvm.Cond.fieldLink "java/lang/Throwable" (198 : Nat) "java/lang/Throwable" "backtrace" "Ljava/lang/Object;") ∈ lw_all := lw_g (lw_at lw_m1 168 rfl) rfl
theorem q287 : (Jvm.Cond.superclass "java/lang/Throwable" "java/lang/Object") ∈ lw_all := lw_g (lw_at lw_m1 169 rfl) rfl
theorem q288 : (Jvm.Cond.instanceMethod ({ cls := "java/lang/Throwable", name := "<init>", desc := "()V" } : Jvm.MethodName)) ∈ lw_all := lw_g (lw_at lw_m1 170 rfl) rfl
theorem q289 : (Jvm.Cond.code ({ cls := "java/lang/Throwable", name := "<init>", desc := "()V" } : Jvm.MethodName) prog_67_method_1_code (1 : Nat) (Option.none : Option Jvm.ClassFile.FieldType)) ∈ lw_all := lw_g (lw_at lw_m1 171 rfl) rfl
theorem q290 : (Jvm.Cond.methodLink "java/lang/Throwable" (1 : Nat) ({ cls := "java/lang/Object", name := "<init>", desc := "()V" } : Jvm.MethodName)) ∈ lw_all := lw_g (lw_at lw_m1 172 rfl) rfl
theorem q291 : (Jvm.Cond.fieldLink "java/lang/Throwable" (13 : Nat) "java/lang/Throwable" "UNASSIGNED_STACK" "[Ljava/lang/StackTraceElement;") ∈ lw_all := lw_g (lw_at lw_m1 173 rfl) rfl
theorem q292 : (Jvm.Cond.laysStatic "java/lang/Throwable" "UNASSIGNED_STACK" "[Ljava/lang/StackTraceElement;") ∈ lw_tbl := lw_at lw_m1 174 rfl
theorem q293 : (Jvm.Cond.fieldLink "java/lang/Throwable" (20 : Nat) "java/lang/Throwable" "SUPPRESSED_SENTINEL" "Ljava/util/List;") ∈ lw_all := lw_g (lw_at lw_m1 175 rfl) rfl
theorem q294 : (Jvm.Cond.laysStatic "java/lang/Throwable" "SUPPRESSED_SENTINEL" "Ljava/util/List;") ∈ lw_tbl := lw_at lw_m1 176 rfl
theorem q295 : (Jvm.Cond.methodLink "java/lang/Throwable" (27 : Nat) ({ cls := "java/lang/Throwable", name := "fillInStackTrace", desc := "()Ljava/lang/Throwable;" } : Jvm.MethodName)) ∈ lw_all := lw_g (lw_at lw_m1 177 rfl) rfl
theorem q296 : (Jvm.Cond.instanceMethod ({ cls := "java/lang/Throwable", name := "fillInStackTrace", desc := "()Ljava/lang/Throwable;" } : Jvm.MethodName)) ∈ lw_all := lw_g (lw_at lw_m1 178 rfl) rfl
theorem q297 : (Jvm.Cond.sameMethod "java/lang/Throwable" "java/lang/Throwable" "fillInStackTrace" "()Ljava/lang/Throwable;") ∈ lw_all := lw_g (lw_at lw_m1 179 rfl) rfl
theorem q302 : (Jvm.Cond.codeSync ({ cls := "java/lang/Throwable", name := "fillInStackTrace", desc := "()Ljava/lang/Throwable;" } : Jvm.MethodName) prog_67_method_18_code (1 : Nat) (Option.some (Jvm.ClassFile.FieldType.object "java/lang/Throwable"))) ∈ lw_all := lw_g (lw_at lw_m1 184 rfl) rfl
theorem q303 : (Jvm.Cond.methodLink "java/lang/Throwable" (202 : Nat) ({ cls := "java/lang/Throwable", name := "fillInStackTrace", desc := "(I)Ljava/lang/Throwable;" } : Jvm.MethodName)) ∈ lw_all := lw_g (lw_at lw_m1 185 rfl) rfl
theorem q304 : (Jvm.Cond.privateMethod ({ cls := "java/lang/Throwable", name := "fillInStackTrace", desc := "(I)Ljava/lang/Throwable;" } : Jvm.MethodName)) ∈ lw_tbl := lw_at lw_m1 186 rfl
theorem q305 : (Jvm.Cond.instanceMethod ({ cls := "java/lang/Throwable", name := "fillInStackTrace", desc := "(I)Ljava/lang/Throwable;" } : Jvm.MethodName)) ∈ lw_all := lw_g (lw_at lw_m1 187 rfl) rfl
theorem q306 : (Jvm.Cond.instantiable "java/lang/Throwable" (6 : Nat)) ∈ lw_all := lw_g (lw_at lw_m1 188 rfl) rfl
theorem q307 : (Jvm.Cond.native ({ cls := "java/lang/Throwable", name := "fillInStackTrace", desc := "(I)Ljava/lang/Throwable;" } : Jvm.MethodName)) ∈ lw_all := lw_g (lw_at lw_m1 189 rfl) rfl
theorem q318 : (Jvm.Cond.fieldLink "java/lang/Throwable" (198 : Nat) "java/lang/Throwable" "backtrace" "Ljava/lang/Object;") ∈ lw_all := lw_g (lw_at lw_m1 200 rfl) rfl
theorem q319 : (Jvm.Cond.fieldLink "java/lang/Throwable" (31 : Nat) "java/lang/Throwable" "detailMessage" "Ljava/lang/String;") ∈ lw_all := lw_g (lw_at lw_m1 201 rfl) rfl
theorem q320 : (Jvm.Cond.fieldLink "java/lang/Throwable" (7 : Nat) "java/lang/Throwable" "cause" "Ljava/lang/Throwable;") ∈ lw_all := lw_g (lw_at lw_m1 202 rfl) rfl
theorem q321 : (Jvm.Cond.fieldLink "java/lang/Throwable" (17 : Nat) "java/lang/Throwable" "stackTrace" "[Ljava/lang/StackTraceElement;") ∈ lw_all := lw_g (lw_at lw_m1 203 rfl) rfl
theorem q322 : (Jvm.Cond.fieldLink "java/lang/Throwable" (24 : Nat) "java/lang/Throwable" "suppressedExceptions" "Ljava/util/List;") ∈ lw_all := lw_g (lw_at lw_m1 204 rfl) rfl
theorem q323 : (Jvm.Cond.soleField "java/lang/Throwable" "backtrace") ∈ lw_all := lw_g (lw_at lw_m1 205 rfl) rfl
theorem q324 : (Jvm.Cond.soleField "java/lang/Throwable" "detailMessage") ∈ lw_all := lw_g (lw_at lw_m1 206 rfl) rfl
theorem q325 : (Jvm.Cond.soleField "java/lang/Throwable" "cause") ∈ lw_all := lw_g (lw_at lw_m1 207 rfl) rfl
theorem q326 : (Jvm.Cond.soleField "java/lang/Throwable" "stackTrace") ∈ lw_all := lw_g (lw_at lw_m1 208 rfl) rfl
theorem q328 : (Jvm.Cond.soleField "java/lang/Throwable" "depth") ∈ lw_all := lw_g (lw_at lw_m1 210 rfl) rfl
theorem q329 : (Jvm.Cond.soleField "java/lang/Throwable" "suppressedExceptions") ∈ lw_all := lw_g (lw_at lw_m1 211 rfl) rfl
theorem q601 : (Jvm.Cond.instanceMethod ({ cls := "java/lang/Throwable", name := "<init>", desc := "(Ljava/lang/String;)V" } : Jvm.MethodName)) ∈ lw_all := lw_g (lw_at lw_m3 3 rfl) rfl
theorem q602 : (Jvm.Cond.code ({ cls := "java/lang/Throwable", name := "<init>", desc := "(Ljava/lang/String;)V" } : Jvm.MethodName) prog_67_method_2_code (2 : Nat) (Option.none : Option Jvm.ClassFile.FieldType)) ∈ lw_all := lw_g (lw_at lw_m3 4 rfl) rfl
theorem q3375 : (Jvm.Cond.sameMethod "java/lang/Throwable" "java/lang/Throwable" "fillInStackTrace" "(I)Ljava/lang/Throwable;") ∈ lw_all := lw_g (lw_at lw_m14 137 rfl) rfl
theorem q3449 : (Jvm.Cond.castable "java/lang/Throwable" "java/lang/Object") ∈ lw_tbl := lw_at lw_m14 211 rfl
theorem q122 : (Jvm.Cond.initialized "java/lang/Exception") ∈ lw_all := lw_g (lw_at lw_m1 4 rfl) rfl
theorem q270 : (Jvm.Cond.declares ({ cls := "java/lang/Exception", name := "<init>", desc := "()V" } : Jvm.MethodName)) ∈ lw_tbl := lw_at lw_m1 152 rfl
theorem q271 : (Jvm.Cond.declares ({ cls := "java/lang/Exception", name := "<init>", desc := "(Ljava/lang/String;)V" } : Jvm.MethodName)) ∈ lw_tbl := lw_at lw_m1 153 rfl
theorem q315 : (Jvm.Cond.instanceMethod ({ cls := "java/lang/Exception", name := "<init>", desc := "()V" } : Jvm.MethodName)) ∈ lw_all := lw_g (lw_at lw_m1 197 rfl) rfl
theorem q316 : (Jvm.Cond.code ({ cls := "java/lang/Exception", name := "<init>", desc := "()V" } : Jvm.MethodName) prog_52_method_1_code (1 : Nat) (Option.none : Option Jvm.ClassFile.FieldType)) ∈ lw_all := lw_g (lw_at lw_m1 198 rfl) rfl
theorem q317 : (Jvm.Cond.methodLink "java/lang/Exception" (1 : Nat) ({ cls := "java/lang/Throwable", name := "<init>", desc := "()V" } : Jvm.MethodName)) ∈ lw_all := lw_g (lw_at lw_m1 199 rfl) rfl
theorem q598 : (Jvm.Cond.instanceMethod ({ cls := "java/lang/Exception", name := "<init>", desc := "(Ljava/lang/String;)V" } : Jvm.MethodName)) ∈ lw_all := lw_g (lw_at lw_m3 0 rfl) rfl
theorem q599 : (Jvm.Cond.code ({ cls := "java/lang/Exception", name := "<init>", desc := "(Ljava/lang/String;)V" } : Jvm.MethodName) prog_52_method_2_code (2 : Nat) (Option.none : Option Jvm.ClassFile.FieldType)) ∈ lw_all := lw_g (lw_at lw_m3 1 rfl) rfl
theorem q600 : (Jvm.Cond.methodLink "java/lang/Exception" (7 : Nat) ({ cls := "java/lang/Throwable", name := "<init>", desc := "(Ljava/lang/String;)V" } : Jvm.MethodName)) ∈ lw_all := lw_g (lw_at lw_m3 2 rfl) rfl
theorem q123 : (Jvm.Cond.initialized "java/lang/RuntimeException") ∈ lw_all := lw_g (lw_at lw_m1 5 rfl) rfl
theorem q268 : (Jvm.Cond.declares ({ cls := "java/lang/RuntimeException", name := "<init>", desc := "()V" } : Jvm.MethodName)) ∈ lw_tbl := lw_at lw_m1 150 rfl
theorem q269 : (Jvm.Cond.declares ({ cls := "java/lang/RuntimeException", name := "<init>", desc := "(Ljava/lang/String;)V" } : Jvm.MethodName)) ∈ lw_tbl := lw_at lw_m1 151 rfl
theorem q312 : (Jvm.Cond.instanceMethod ({ cls := "java/lang/RuntimeException", name := "<init>", desc := "()V" } : Jvm.MethodName)) ∈ lw_all := lw_g (lw_at lw_m1 194 rfl) rfl
theorem q313 : (Jvm.Cond.code ({ cls := "java/lang/RuntimeException", name := "<init>", desc := "()V" } : Jvm.MethodName) prog_61_method_1_code (1 : Nat) (Option.none : Option Jvm.ClassFile.FieldType)) ∈ lw_all := lw_g (lw_at lw_m1 195 rfl) rfl
theorem q314 : (Jvm.Cond.methodLink "java/lang/RuntimeException" (1 : Nat) ({ cls := "java/lang/Exception", name := "<init>", desc := "()V" } : Jvm.MethodName)) ∈ lw_all := lw_g (lw_at lw_m1 196 rfl) rfl
theorem q595 : (Jvm.Cond.instanceMethod ({ cls := "java/lang/RuntimeException", name := "<init>", desc := "(Ljava/lang/String;)V" } : Jvm.MethodName)) ∈ lw_all := lw_g (lw_at lw_m2 237 rfl) rfl
theorem q596 : (Jvm.Cond.code ({ cls := "java/lang/RuntimeException", name := "<init>", desc := "(Ljava/lang/String;)V" } : Jvm.MethodName) prog_61_method_2_code (2 : Nat) (Option.none : Option Jvm.ClassFile.FieldType)) ∈ lw_all := lw_g (lw_at lw_m2 238 rfl) rfl
theorem q597 : (Jvm.Cond.methodLink "java/lang/RuntimeException" (7 : Nat) ({ cls := "java/lang/Exception", name := "<init>", desc := "(Ljava/lang/String;)V" } : Jvm.MethodName)) ∈ lw_all := lw_g (lw_at lw_m2 239 rfl) rfl
theorem q124 : (Jvm.Cond.initialized "java/lang/IllegalArgumentException") ∈ lw_all := lw_g (lw_at lw_m1 6 rfl) rfl
theorem q266 : (Jvm.Cond.instantiable "java/lang/IllegalArgumentException" (6 : Nat)) ∈ lw_all := lw_g (lw_at lw_m1 148 rfl) rfl
theorem q267 : (Jvm.Cond.castable "java/lang/IllegalArgumentException" "java/lang/IllegalArgumentException") ∈ lw_tbl := lw_at lw_m1 149 rfl
theorem q274 : (Jvm.Cond.selects "java/lang/IllegalArgumentException" ({ cls := "java/lang/Throwable", name := "fillInStackTrace", desc := "(I)Ljava/lang/Throwable;" } : Jvm.MethodName) ({ cls := "java/lang/Throwable", name := "fillInStackTrace", desc := "(I)Ljava/lang/Throwable;" } : Jvm.MethodName)) ∈ lw_all := lw_g (lw_at lw_m1 156 rfl) rfl
theorem q275 : (Jvm.Cond.selects "java/lang/IllegalArgumentException" ({ cls := "java/lang/Throwable", name := "fillInStackTrace", desc := "()Ljava/lang/Throwable;" } : Jvm.MethodName) ({ cls := "java/lang/Throwable", name := "fillInStackTrace", desc := "()Ljava/lang/Throwable;" } : Jvm.MethodName)) ∈ lw_all := lw_g (lw_at lw_m1 157 rfl) rfl
theorem q276 : (Jvm.Cond.lays "java/lang/IllegalArgumentException" "java/lang/Throwable" "cause" "Ljava/lang/Throwable;") ∈ lw_all := lw_g (lw_at lw_m1 158 rfl) rfl
theorem q278 : (Jvm.Cond.lays "java/lang/IllegalArgumentException" "java/lang/Throwable" "stackTrace" "[Ljava/lang/StackTraceElement;") ∈ lw_all := lw_g (lw_at lw_m1 160 rfl) rfl
theorem q280 : (Jvm.Cond.lays "java/lang/IllegalArgumentException" "java/lang/Throwable" "suppressedExceptions" "Ljava/util/List;") ∈ lw_all := lw_g (lw_at lw_m1 162 rfl) rfl
theorem q282 : (Jvm.Cond.lays "java/lang/IllegalArgumentException" "java/lang/Throwable" "detailMessage" "Ljava/lang/String;") ∈ lw_all := lw_g (lw_at lw_m1 164 rfl) rfl
theorem q284 : (Jvm.Cond.lays "java/lang/IllegalArgumentException" "java/lang/Throwable" "backtrace" "Ljava/lang/Object;") ∈ lw_all := lw_g (lw_at lw_m1 166 rfl) rfl
theorem q309 : (Jvm.Cond.instanceMethod ({ cls := "java/lang/IllegalArgumentException", name := "<init>", desc := "()V" } : Jvm.MethodName)) ∈ lw_all := lw_g (lw_at lw_m1 191 rfl) rfl
theorem q310 : (Jvm.Cond.code ({ cls := "java/lang/IllegalArgumentException", name := "<init>", desc := "()V" } : Jvm.MethodName) prog_53_method_1_code (1 : Nat) (Option.none : Option Jvm.ClassFile.FieldType)) ∈ lw_all := lw_g (lw_at lw_m1 192 rfl) rfl
theorem q311 : (Jvm.Cond.methodLink "java/lang/IllegalArgumentException" (1 : Nat) ({ cls := "java/lang/RuntimeException", name := "<init>", desc := "()V" } : Jvm.MethodName)) ∈ lw_all := lw_g (lw_at lw_m1 193 rfl) rfl
theorem q327 : (Jvm.Cond.lays "java/lang/IllegalArgumentException" "java/lang/Throwable" "depth" "I") ∈ lw_all := lw_g (lw_at lw_m1 209 rfl) rfl
theorem q330 : (Jvm.Cond.superclass "java/lang/IllegalArgumentException" "java/lang/RuntimeException") ∈ lw_all := lw_g (lw_at lw_m1 212 rfl) rfl
theorem q592 : (Jvm.Cond.instanceMethod ({ cls := "java/lang/IllegalArgumentException", name := "<init>", desc := "(Ljava/lang/String;)V" } : Jvm.MethodName)) ∈ lw_all := lw_g (lw_at lw_m2 234 rfl) rfl
theorem q593 : (Jvm.Cond.code ({ cls := "java/lang/IllegalArgumentException", name := "<init>", desc := "(Ljava/lang/String;)V" } : Jvm.MethodName) prog_53_method_2_code (2 : Nat) (Option.none : Option Jvm.ClassFile.FieldType)) ∈ lw_all := lw_g (lw_at lw_m2 235 rfl) rfl
theorem q594 : (Jvm.Cond.methodLink "java/lang/IllegalArgumentException" (7 : Nat) ({ cls := "java/lang/RuntimeException", name := "<init>", desc := "(Ljava/lang/String;)V" } : Jvm.MethodName)) ∈ lw_all := lw_g (lw_at lw_m2 236 rfl) rfl
theorem q975 : (Jvm.Cond.selects "java/lang/IllegalArgumentException" ({ cls := "java/lang/Object", name := "getClass", desc := "()Ljava/lang/Class;" } : Jvm.MethodName) ({ cls := "java/lang/Object", name := "getClass", desc := "()Ljava/lang/Class;" } : Jvm.MethodName)) ∈ lw_all := lw_g (lw_at lw_m4 137 rfl) rfl
theorem q3414 : (Jvm.Cond.castable "java/lang/IllegalArgumentException" "java/lang/Object") ∈ lw_tbl := lw_at lw_m14 176 rfl
theorem q126 : (Jvm.Cond.initialized "java/util/AbstractCollection") ∈ lw_all := lw_g (lw_at lw_m1 8 rfl) rfl
theorem q346 : (Jvm.Cond.instanceMethod ({ cls := "java/util/AbstractCollection", name := "<init>", desc := "()V" } : Jvm.MethodName)) ∈ lw_all := lw_g (lw_at lw_m1 228 rfl) rfl
theorem q347 : (Jvm.Cond.code ({ cls := "java/util/AbstractCollection", name := "<init>", desc := "()V" } : Jvm.MethodName) prog_70_method_1_code (1 : Nat) (Option.none : Option Jvm.ClassFile.FieldType)) ∈ lw_all := lw_g (lw_at lw_m1 229 rfl) rfl
theorem q348 : (Jvm.Cond.methodLink "java/util/AbstractCollection" (1 : Nat) ({ cls := "java/lang/Object", name := "<init>", desc := "()V" } : Jvm.MethodName)) ∈ lw_all := lw_g (lw_at lw_m1 230 rfl) rfl
theorem q127 : (Jvm.Cond.initialized "java/util/AbstractList") ∈ lw_all := lw_g (lw_at lw_m1 9 rfl) rfl
theorem q343 : (Jvm.Cond.instanceMethod ({ cls := "java/util/AbstractList", name := "<init>", desc := "()V" } : Jvm.MethodName)) ∈ lw_all := lw_g (lw_at lw_m1 225 rfl) rfl
theorem q344 : (Jvm.Cond.code ({ cls := "java/util/AbstractList", name := "<init>", desc := "()V" } : Jvm.MethodName) prog_71_method_1_code (1 : Nat) (Option.none : Option Jvm.ClassFile.FieldType)) ∈ lw_all := lw_g (lw_at lw_m1 226 rfl) rfl
theorem q345 : (Jvm.Cond.methodLink "java/util/AbstractList" (1 : Nat) ({ cls := "java/util/AbstractCollection", name := "<init>", desc := "()V" } : Jvm.MethodName)) ∈ lw_all := lw_g (lw_at lw_m1 227 rfl) rfl
theorem q353 : (Jvm.Cond.fieldLink "java/util/AbstractList" (7 : Nat) "java/util/AbstractList" "modCount" "I") ∈ lw_all := lw_g (lw_at lw_m1 235 rfl) rfl
theorem q361 : (Jvm.Cond.soleField "java/util/AbstractList" "modCount") ∈ lw_all := lw_g (lw_at lw_m2 3 rfl) rfl
theorem q128 : (Jvm.Cond.initialized "java/util/ArrayList") ∈ lw_all := lw_g (lw_at lw_m1 10 rfl) rfl
theorem q338 : (Jvm.Cond.instantiable "java/util/ArrayList" (3 : Nat)) ∈ lw_all := lw_g (lw_at lw_m1 220 rfl) rfl
theorem q340 : (Jvm.Cond.instanceMethod ({ cls := "java/util/ArrayList", name := "<init>", desc := "()V" } : Jvm.MethodName)) ∈ lw_all := lw_g (lw_at lw_m1 222 rfl) rfl
theorem q341 : (Jvm.Cond.code ({ cls := "java/util/ArrayList", name := "<init>", desc := "()V" } : Jvm.MethodName) prog_72_method_2_code (1 : Nat) (Option.none : Option Jvm.ClassFile.FieldType)) ∈ lw_all := lw_g (lw_at lw_m1 223 rfl) rfl
theorem q342 : (Jvm.Cond.methodLink "java/util/ArrayList" (1 : Nat) ({ cls := "java/util/AbstractList", name := "<init>", desc := "()V" } : Jvm.MethodName)) ∈ lw_all := lw_g (lw_at lw_m1 224 rfl) rfl
theorem q349 : (Jvm.Cond.fieldLink "java/util/ArrayList" (39 : Nat) "java/util/ArrayList" "DEFAULTCAPACITY_EMPTY_ELEMENTDATA" "[Ljava/lang/Object;") ∈ lw_all := lw_g (lw_at lw_m1 231 rfl) rfl
theorem q350 : (Jvm.Cond.laysStatic "java/util/ArrayList" "DEFAULTCAPACITY_EMPTY_ELEMENTDATA" "[Ljava/lang/Object;") ∈ lw_tbl := lw_at lw_m1 232 rfl
theorem q351 : (Jvm.Cond.fieldLink "java/util/ArrayList" (9 : Nat) "java/util/ArrayList" "elementData" "[Ljava/lang/Object;") ∈ lw_all := lw_g (lw_at lw_m1 233 rfl) rfl
theorem q352 : (Jvm.Cond.fieldLink "java/util/ArrayList" (48 : Nat) "java/util/ArrayList" "size" "I") ∈ lw_all := lw_g (lw_at lw_m1 234 rfl) rfl
theorem q354 : (Jvm.Cond.fieldLink "java/util/ArrayList" (63 : Nat) "java/util/ArrayList" "modCount" "I") ∈ lw_all := lw_g (lw_at lw_m1 236 rfl) rfl
theorem q355 : (Jvm.Cond.sameField "java/util/ArrayList" "java/util/AbstractList" "modCount" "I") ∈ lw_all := lw_g (lw_at lw_m1 237 rfl) rfl
theorem q356 : (Jvm.Cond.lays "java/util/ArrayList" "java/util/ArrayList" "elementData" "[Ljava/lang/Object;") ∈ lw_all := lw_g (lw_at lw_m1 238 rfl) rfl
theorem q357 : (Jvm.Cond.soleField "java/util/ArrayList" "elementData") ∈ lw_all := lw_g (lw_at lw_m1 239 rfl) rfl
theorem q358 : (Jvm.Cond.lays "java/util/ArrayList" "java/util/ArrayList" "size" "I") ∈ lw_all := lw_g (lw_at lw_m2 0 rfl) rfl
theorem q359 : (Jvm.Cond.soleField "java/util/ArrayList" "size") ∈ lw_all := lw_g (lw_at lw_m2 1 rfl) rfl
theorem q360 : (Jvm.Cond.lays "java/util/ArrayList" "java/util/AbstractList" "modCount" "I") ∈ lw_all := lw_g (lw_at lw_m2 2 rfl) rfl
theorem q362 : (Jvm.Cond.superclass "java/util/ArrayList" "java/util/AbstractList") ∈ lw_all := lw_g (lw_at lw_m2 4 rfl) rfl
theorem q364 : (Jvm.Cond.instanceMethod ({ cls := "java/util/ArrayList", name := "<init>", desc := "(I)V" } : Jvm.MethodName)) ∈ lw_all := lw_g (lw_at lw_m2 6 rfl) rfl
theorem q365 : (Jvm.Cond.code ({ cls := "java/util/ArrayList", name := "<init>", desc := "(I)V" } : Jvm.MethodName) prog_72_method_1_code (2 : Nat) (Option.none : Option Jvm.ClassFile.FieldType)) ∈ lw_all := lw_g (lw_at lw_m2 7 rfl) rfl
theorem q366 : (Jvm.Cond.classLink "java/util/ArrayList" (7 : Nat) "java/lang/Object") ∈ lw_all := lw_g (lw_at lw_m2 8 rfl) rfl
theorem q368 : (Jvm.Cond.fieldLink "java/util/ArrayList" (15 : Nat) "java/util/ArrayList" "EMPTY_ELEMENTDATA" "[Ljava/lang/Object;") ∈ lw_all := lw_g (lw_at lw_m2 10 rfl) rfl
theorem q369 : (Jvm.Cond.laysStatic "java/util/ArrayList" "EMPTY_ELEMENTDATA" "[Ljava/lang/Object;") ∈ lw_tbl := lw_at lw_m2 11 rfl
theorem q370 : (Jvm.Cond.classLink "java/util/ArrayList" (18 : Nat) "java/lang/IllegalArgumentException") ∈ lw_all := lw_g (lw_at lw_m2 12 rfl) rfl
theorem q371 : (Jvm.Cond.classLink "java/util/ArrayList" (20 : Nat) "java/lang/StringBuilder") ∈ lw_all := lw_g (lw_at lw_m2 13 rfl) rfl
theorem q373 : (Jvm.Cond.methodLink "java/util/ArrayList" (22 : Nat) ({ cls := "java/lang/StringBuilder", name := "<init>", desc := "()V" } : Jvm.MethodName)) ∈ lw_all := lw_g (lw_at lw_m2 15 rfl) rfl
theorem q402 : (Jvm.Cond.stringRef "java/util/ArrayList" (23 : Nat) "Illegal Capacity: ") ∈ lw_tbl := lw_at lw_m2 44 rfl
theorem q403 : (Jvm.Cond.methodLink "java/util/ArrayList" (25 : Nat) ({ cls := "java/lang/StringBuilder", name := "append", desc := "(Ljava/lang/String;)Ljava/lang/StringBuilder;" } : Jvm.MethodName)) ∈ lw_all := lw_g (lw_at lw_m2 45 rfl) rfl
theorem q523 : (Jvm.Cond.methodLink "java/util/ArrayList" (29 : Nat) ({ cls := "java/lang/StringBuilder", name := "append", desc := "(I)Ljava/lang/StringBuilder;" } : Jvm.MethodName)) ∈ lw_all := lw_g (lw_at lw_m2 165 rfl) rfl
theorem q548 : (Jvm.Cond.methodLink "java/util/ArrayList" (32 : Nat) ({ cls := "java/lang/StringBuilder", name := "toString", desc := "()Ljava/lang/String;" } : Jvm.MethodName)) ∈ lw_all := lw_g (lw_at lw_m2 190 rfl) rfl
theorem q627 : (Jvm.Cond.methodLink "java/util/ArrayList" (36 : Nat) ({ cls := "java/lang/IllegalArgumentException", name := "<init>", desc := "(Ljava/lang/String;)V" } : Jvm.MethodName)) ∈ lw_all := lw_g (lw_at lw_m3 29 rfl) rfl
theorem q882 : (Jvm.Cond.instanceMethod ({ cls := "java/util/ArrayList", name := "size", desc := "()I" } : Jvm.MethodName)) ∈ lw_all := lw_g (lw_at lw_m4 44 rfl) rfl
theorem q883 : (Jvm.Cond.selects "java/util/ArrayList" ({ cls := "java/util/ArrayList", name := "size", desc := "()I" } : Jvm.MethodName) ({ cls := "java/util/ArrayList", name := "size", desc := "()I" } : Jvm.MethodName)) ∈ lw_all := lw_g (lw_at lw_m4 45 rfl) rfl
theorem q884 : (Jvm.Cond.code ({ cls := "java/util/ArrayList", name := "size", desc := "()I" } : Jvm.MethodName) prog_72_method_8_code (1 : Nat) (Option.some Jvm.ClassFile.FieldType.int)) ∈ lw_all := lw_g (lw_at lw_m4 46 rfl) rfl
theorem q886 : (Jvm.Cond.instanceMethod ({ cls := "java/util/ArrayList", name := "get", desc := "(I)Ljava/lang/Object;" } : Jvm.MethodName)) ∈ lw_all := lw_g (lw_at lw_m4 48 rfl) rfl
theorem q887 : (Jvm.Cond.selects "java/util/ArrayList" ({ cls := "java/util/ArrayList", name := "get", desc := "(I)Ljava/lang/Object;" } : Jvm.MethodName) ({ cls := "java/util/ArrayList", name := "get", desc := "(I)Ljava/lang/Object;" } : Jvm.MethodName)) ∈ lw_all := lw_g (lw_at lw_m4 49 rfl) rfl
theorem q888 : (Jvm.Cond.code ({ cls := "java/util/ArrayList", name := "get", desc := "(I)Ljava/lang/Object;" } : Jvm.MethodName) prog_72_method_20_code (2 : Nat) (Option.some (Jvm.ClassFile.FieldType.object "java/lang/Object"))) ∈ lw_all := lw_g (lw_at lw_m4 50 rfl) rfl
theorem q889 : (Jvm.Cond.methodLink "java/util/ArrayList" (118 : Nat) ({ cls := "java/util/Objects", name := "checkIndex", desc := "(II)I" } : Jvm.MethodName)) ∈ lw_all := lw_g (lw_at lw_m4 51 rfl) rfl
theorem q893 : (Jvm.Cond.methodLink "java/util/ArrayList" (123 : Nat) ({ cls := "java/util/ArrayList", name := "elementData", desc := "(I)Ljava/lang/Object;" } : Jvm.MethodName)) ∈ lw_all := lw_g (lw_at lw_m4 55 rfl) rfl
theorem q894 : (Jvm.Cond.instanceMethod ({ cls := "java/util/ArrayList", name := "elementData", desc := "(I)Ljava/lang/Object;" } : Jvm.MethodName)) ∈ lw_all := lw_g (lw_at lw_m4 56 rfl) rfl
theorem q895 : (Jvm.Cond.selects "java/util/ArrayList" ({ cls := "java/util/ArrayList", name := "elementData", desc := "(I)Ljava/lang/Object;" } : Jvm.MethodName) ({ cls := "java/util/ArrayList", name := "elementData", desc := "(I)Ljava/lang/Object;" } : Jvm.MethodName)) ∈ lw_all := lw_g (lw_at lw_m4 57 rfl) rfl
theorem q896 : (Jvm.Cond.code ({ cls := "java/util/ArrayList", name := "elementData", desc := "(I)Ljava/lang/Object;" } : Jvm.MethodName) prog_72_method_18_code (2 : Nat) (Option.some (Jvm.ClassFile.FieldType.object "java/lang/Object"))) ∈ lw_all := lw_g (lw_at lw_m4 58 rfl) rfl
theorem q921 : (Jvm.Cond.instanceMethod ({ cls := "java/util/ArrayList", name := "add", desc := "(Ljava/lang/Object;)Z" } : Jvm.MethodName)) ∈ lw_all := lw_g (lw_at lw_m4 83 rfl) rfl
theorem q922 : (Jvm.Cond.selects "java/util/ArrayList" ({ cls := "java/util/ArrayList", name := "add", desc := "(Ljava/lang/Object;)Z" } : Jvm.MethodName) ({ cls := "java/util/ArrayList", name := "add", desc := "(Ljava/lang/Object;)Z" } : Jvm.MethodName)) ∈ lw_all := lw_g (lw_at lw_m4 84 rfl) rfl
theorem q923 : (Jvm.Cond.code ({ cls := "java/util/ArrayList", name := "add", desc := "(Ljava/lang/Object;)Z" } : Jvm.MethodName) prog_72_method_25_code (2 : Nat) (Option.some Jvm.ClassFile.FieldType.boolean)) ∈ lw_all := lw_g (lw_at lw_m4 85 rfl) rfl
theorem q924 : (Jvm.Cond.methodLink "java/util/ArrayList" (131 : Nat) ({ cls := "java/util/ArrayList", name := "add", desc := "(Ljava/lang/Object;[Ljava/lang/Object;I)V" } : Jvm.MethodName)) ∈ lw_all := lw_g (lw_at lw_m4 86 rfl) rfl
theorem q925 : (Jvm.Cond.privateMethod ({ cls := "java/util/ArrayList", name := "add", desc := "(Ljava/lang/Object;[Ljava/lang/Object;I)V" } : Jvm.MethodName)) ∈ lw_tbl := lw_at lw_m4 87 rfl
theorem q926 : (Jvm.Cond.instanceMethod ({ cls := "java/util/ArrayList", name := "add", desc := "(Ljava/lang/Object;[Ljava/lang/Object;I)V" } : Jvm.MethodName)) ∈ lw_all := lw_g (lw_at lw_m4 88 rfl) rfl
theorem q927 : (Jvm.Cond.code ({ cls := "java/util/ArrayList", name := "add", desc := "(Ljava/lang/Object;[Ljava/lang/Object;I)V" } : Jvm.MethodName) prog_72_method_24_code (4 : Nat) (Option.none : Option Jvm.ClassFile.FieldType)) ∈ lw_all := lw_g (lw_at lw_m4 89 rfl) rfl
theorem q928 : (Jvm.Cond.methodLink "java/util/ArrayList" (129 : Nat) ({ cls := "java/util/ArrayList", name := "grow", desc := "()[Ljava/lang/Object;" } : Jvm.MethodName)) ∈ lw_all := lw_g (lw_at lw_m4 90 rfl) rfl
theorem q929 : (Jvm.Cond.privateMethod ({ cls := "java/util/ArrayList", name := "grow", desc := "()[Ljava/lang/Object;" } : Jvm.MethodName)) ∈ lw_tbl := lw_at lw_m4 91 rfl
theorem q930 : (Jvm.Cond.instanceMethod ({ cls := "java/util/ArrayList", name := "grow", desc := "()[Ljava/lang/Object;" } : Jvm.MethodName)) ∈ lw_all := lw_g (lw_at lw_m4 92 rfl) rfl
theorem q931 : (Jvm.Cond.code ({ cls := "java/util/ArrayList", name := "grow", desc := "()[Ljava/lang/Object;" } : Jvm.MethodName) prog_72_method_7_code (1 : Nat) (Option.some (Jvm.ClassFile.FieldType.array (Jvm.ClassFile.FieldType.object "java/lang/Object")))) ∈ lw_all := lw_g (lw_at lw_m4 93 rfl) rfl
theorem q932 : (Jvm.Cond.methodLink "java/util/ArrayList" (69 : Nat) ({ cls := "java/util/ArrayList", name := "grow", desc := "(I)[Ljava/lang/Object;" } : Jvm.MethodName)) ∈ lw_all := lw_g (lw_at lw_m4 94 rfl) rfl
theorem q933 : (Jvm.Cond.privateMethod ({ cls := "java/util/ArrayList", name := "grow", desc := "(I)[Ljava/lang/Object;" } : Jvm.MethodName)) ∈ lw_tbl := lw_at lw_m4 95 rfl
theorem q934 : (Jvm.Cond.instanceMethod ({ cls := "java/util/ArrayList", name := "grow", desc := "(I)[Ljava/lang/Object;" } : Jvm.MethodName)) ∈ lw_all := lw_g (lw_at lw_m4 96 rfl) rfl
theorem q935 : (Jvm.Cond.code ({ cls := "java/util/ArrayList", name := "grow", desc := "(I)[Ljava/lang/Object;" } : Jvm.MethodName) prog_72_method_6_code (4 : Nat) (Option.some (Jvm.ClassFile.FieldType.array (Jvm.ClassFile.FieldType.object "java/lang/Object")))) ∈ lw_all := lw_g (lw_at lw_m4 97 rfl) rfl
theorem q936 : (Jvm.Cond.methodLink "java/util/ArrayList" (73 : Nat) ({ cls := "jdk/internal/util/ArraysSupport", name := "newLength", desc := "(III)I" } : Jvm.MethodName)) ∈ lw_all := lw_g (lw_at lw_m4 98 rfl) rfl
theorem q937 : (Jvm.Cond.methodLink "java/util/ArrayList" (66 : Nat) ({ cls := "java/util/Arrays", name := "copyOf", desc := "([Ljava/lang/Object;I)[Ljava/lang/Object;" } : Jvm.MethodName)) ∈ lw_all := lw_g (lw_at lw_m4 99 rfl) rfl
theorem q980 : (Jvm.Cond.selects "java/util/ArrayList" ({ cls := "java/lang/Object", name := "getClass", desc := "()Ljava/lang/Class;" } : Jvm.MethodName) ({ cls := "java/lang/Object", name := "getClass", desc := "()Ljava/lang/Class;" } : Jvm.MethodName)) ∈ lw_all := lw_g (lw_at lw_m4 142 rfl) rfl
theorem q987 : (Jvm.Cond.methodLink "java/util/ArrayList" (79 : Nat) ({ cls := "java/lang/Math", name := "max", desc := "(II)I" } : Jvm.MethodName)) ∈ lw_all := lw_g (lw_at lw_m4 149 rfl) rfl
theorem q3416 : (Jvm.Cond.castable "java/util/ArrayList" "java/lang/Object") ∈ lw_tbl := lw_at lw_m14 178 rfl
theorem q129 : (Jvm.Cond.initialized "java/lang/AbstractStringBuilder") ∈ lw_all := lw_g (lw_at lw_m1 11 rfl) rfl
theorem q377 : (Jvm.Cond.instanceMethod ({ cls := "java/lang/AbstractStringBuilder", name := "<init>", desc := "(I)V" } : Jvm.MethodName)) ∈ lw_all := lw_g (lw_at lw_m2 19 rfl) rfl
theorem q378 : (Jvm.Cond.code ({ cls := "java/lang/AbstractStringBuilder", name := "<init>", desc := "(I)V" } : Jvm.MethodName) prog_44_method_2_code (2 : Nat) (Option.none : Option Jvm.ClassFile.FieldType)) ∈ lw_all := lw_g (lw_at lw_m2 20 rfl) rfl
theorem q379 : (Jvm.Cond.methodLink "java/lang/AbstractStringBuilder" (3 : Nat) ({ cls := "java/lang/Object", name := "<init>", desc := "()V" } : Jvm.MethodName)) ∈ lw_all := lw_g (lw_at lw_m2 21 rfl) rfl
theorem q380 : (Jvm.Cond.fieldLink "java/lang/AbstractStringBuilder" (18 : Nat) "java/lang/String" "COMPACT_STRINGS" "Z") ∈ lw_all := lw_g (lw_at lw_m2 22 rfl) rfl
theorem q382 : (Jvm.Cond.methodLink "java/lang/AbstractStringBuilder" (26 : Nat) ({ cls := "java/lang/StringUTF16", name := "newBytesFor", desc := "(I)[B" } : Jvm.MethodName)) ∈ lw_all := lw_g (lw_at lw_m2 24 rfl) rfl
theorem q389 : (Jvm.Cond.fieldLink "java/lang/AbstractStringBuilder" (15 : Nat) "java/lang/AbstractStringBuilder" "value" "[B") ∈ lw_all := lw_g (lw_at lw_m2 31 rfl) rfl
theorem q390 : (Jvm.Cond.fieldLink "java/lang/AbstractStringBuilder" (22 : Nat) "java/lang/AbstractStringBuilder" "coder" "B") ∈ lw_all := lw_g (lw_at lw_m2 32 rfl) rfl
theorem q392 : (Jvm.Cond.fieldLink "java/lang/AbstractStringBuilder" (79 : Nat) "java/lang/AbstractStringBuilder" "count" "I") ∈ lw_all := lw_g (lw_at lw_m2 34 rfl) rfl
theorem q394 : (Jvm.Cond.soleField "java/lang/AbstractStringBuilder" "value") ∈ lw_all := lw_g (lw_at lw_m2 36 rfl) rfl
theorem q396 : (Jvm.Cond.soleField "java/lang/AbstractStringBuilder" "coder") ∈ lw_all := lw_g (lw_at lw_m2 38 rfl) rfl
theorem q398 : (Jvm.Cond.soleField "java/lang/AbstractStringBuilder" "maybeLatin1") ∈ lw_all := lw_g (lw_at lw_m2 40 rfl) rfl
theorem q400 : (Jvm.Cond.soleField "java/lang/AbstractStringBuilder" "count") ∈ lw_all := lw_g (lw_at lw_m2 42 rfl) rfl
theorem q408 : (Jvm.Cond.instanceMethod ({ cls := "java/lang/AbstractStringBuilder", name := "append", desc := "(Ljava/lang/String;)Ljava/lang/AbstractStringBuilder;" } : Jvm.MethodName)) ∈ lw_all := lw_g (lw_at lw_m2 50 rfl) rfl
theorem q409 : (Jvm.Cond.code ({ cls := "java/lang/AbstractStringBuilder", name := "append", desc := "(Ljava/lang/String;)Ljava/lang/AbstractStringBuilder;" } : Jvm.MethodName) prog_44_method_22_code (3 : Nat) (Option.some (Jvm.ClassFile.FieldType.object "java/lang/AbstractStringBuilder"))) ∈ lw_all := lw_g (lw_at lw_m2 51 rfl) rfl
theorem q410 : (Jvm.Cond.methodLink "java/lang/AbstractStringBuilder" (204 : Nat) ({ cls := "java/lang/AbstractStringBuilder", name := "appendNull", desc := "()Ljava/lang/AbstractStringBuilder;" } : Jvm.MethodName)) ∈ lw_all := lw_g (lw_at lw_m2 52 rfl) rfl
theorem q411 : (Jvm.Cond.privateMethod ({ cls := "java/lang/AbstractStringBuilder", name := "appendNull", desc := "()Ljava/lang/AbstractStringBuilder;" } : Jvm.MethodName)) ∈ lw_tbl := lw_at lw_m2 53 rfl
theorem q412 : (Jvm.Cond.instanceMethod ({ cls := "java/lang/AbstractStringBuilder", name := "appendNull", desc := "()Ljava/lang/AbstractStringBuilder;" } : Jvm.MethodName)) ∈ lw_all := lw_g (lw_at lw_m2 54 rfl) rfl
theorem q413 : (Jvm.Cond.code ({ cls := "java/lang/AbstractStringBuilder", name := "appendNull", desc := "()Ljava/lang/AbstractStringBuilder;" } : Jvm.MethodName) prog_44_method_26_code (3 : Nat) (Option.some (Jvm.ClassFile.FieldType.object "java/lang/AbstractStringBuilder"))) ∈ lw_all := lw_g (lw_at lw_m2 55 rfl) rfl
theorem q414 : (Jvm.Cond.methodLink "java/lang/AbstractStringBuilder" (100 : Nat) ({ cls := "java/lang/AbstractStringBuilder", name := "ensureCapacityInternal", desc := "(I)V" } : Jvm.MethodName)) ∈ lw_all := lw_g (lw_at lw_m2 56 rfl) rfl
theorem q415 : (Jvm.Cond.privateMethod ({ cls := "java/lang/AbstractStringBuilder", name := "ensureCapacityInternal", desc := "(I)V" } : Jvm.MethodName)) ∈ lw_tbl := lw_at lw_m2 57 rfl
theorem q416 : (Jvm.Cond.instanceMethod ({ cls := "java/lang/AbstractStringBuilder", name := "ensureCapacityInternal", desc := "(I)V" } : Jvm.MethodName)) ∈ lw_all := lw_g (lw_at lw_m2 58 rfl) rfl
theorem q417 : (Jvm.Cond.code ({ cls := "java/lang/AbstractStringBuilder", name := "ensureCapacityInternal", desc := "(I)V" } : Jvm.MethodName) prog_44_method_9_code (3 : Nat) (Option.none : Option Jvm.ClassFile.FieldType)) ∈ lw_all := lw_g (lw_at lw_m2 59 rfl) rfl
theorem q418 : (Jvm.Cond.methodLink "java/lang/AbstractStringBuilder" (104 : Nat) ({ cls := "java/lang/AbstractStringBuilder", name := "newCapacity", desc := "(I)I" } : Jvm.MethodName)) ∈ lw_all := lw_g (lw_at lw_m2 60 rfl) rfl
theorem q419 : (Jvm.Cond.privateMethod ({ cls := "java/lang/AbstractStringBuilder", name := "newCapacity", desc := "(I)I" } : Jvm.MethodName)) ∈ lw_tbl := lw_at lw_m2 61 rfl
theorem q420 : (Jvm.Cond.instanceMethod ({ cls := "java/lang/AbstractStringBuilder", name := "newCapacity", desc := "(I)I" } : Jvm.MethodName)) ∈ lw_all := lw_g (lw_at lw_m2 62 rfl) rfl
theorem q421 : (Jvm.Cond.code ({ cls := "java/lang/AbstractStringBuilder", name := "newCapacity", desc := "(I)I" } : Jvm.MethodName) prog_44_method_10_code (6 : Nat) (Option.some Jvm.ClassFile.FieldType.int)) ∈ lw_all := lw_g (lw_at lw_m2 63 rfl) rfl
theorem q422 : (Jvm.Cond.methodLink "java/lang/AbstractStringBuilder" (114 : Nat) ({ cls := "jdk/internal/util/ArraysSupport", name := "newLength", desc := "(III)I" } : Jvm.MethodName)) ∈ lw_all := lw_g (lw_at lw_m2 64 rfl) rfl
theorem q432 : (Jvm.Cond.constant "java/lang/AbstractStringBuilder" (39 : Nat) (2147483647 : Int32)) ∈ lw_all := lw_g (lw_at lw_m2 74 rfl) rfl
theorem q433 : (Jvm.Cond.methodLink "java/lang/AbstractStringBuilder" (108 : Nat) ({ cls := "java/util/Arrays", name := "copyOf", desc := "([BI)[B" } : Jvm.MethodName)) ∈ lw_all := lw_g (lw_at lw_m2 75 rfl) rfl
theorem q449 : (Jvm.Cond.methodLink "java/lang/AbstractStringBuilder" (83 : Nat) ({ cls := "java/lang/AbstractStringBuilder", name := "isLatin1", desc := "()Z" } : Jvm.MethodName)) ∈ lw_all := lw_g (lw_at lw_m2 91 rfl) rfl
theorem q450 : (Jvm.Cond.instanceMethod ({ cls := "java/lang/AbstractStringBuilder", name := "isLatin1", desc := "()Z" } : Jvm.MethodName)) ∈ lw_all := lw_g (lw_at lw_m2 92 rfl) rfl
theorem q451 : (Jvm.Cond.sameMethod "java/lang/AbstractStringBuilder" "java/lang/AbstractStringBuilder" "isLatin1" "()Z") ∈ lw_all := lw_g (lw_at lw_m2 93 rfl) rfl
theorem q453 : (Jvm.Cond.code ({ cls := "java/lang/AbstractStringBuilder", name := "isLatin1", desc := "()Z" } : Jvm.MethodName) prog_44_method_68_code (1 : Nat) (Option.some Jvm.ClassFile.FieldType.boolean)) ∈ lw_all := lw_g (lw_at lw_m2 95 rfl) rfl
theorem q454 : (Jvm.Cond.methodLink "java/lang/AbstractStringBuilder" (226 : Nat) ({ cls := "java/lang/StringUTF16", name := "putCharsAt", desc := "([BICCCC)I" } : Jvm.MethodName)) ∈ lw_all := lw_g (lw_at lw_m2 96 rfl) rfl
theorem q480 : (Jvm.Cond.methodLink "java/lang/AbstractStringBuilder" (32 : Nat) ({ cls := "java/lang/String", name := "length", desc := "()I" } : Jvm.MethodName)) ∈ lw_all := lw_g (lw_at lw_m2 122 rfl) rfl
theorem q489 : (Jvm.Cond.methodLink "java/lang/AbstractStringBuilder" (208 : Nat) ({ cls := "java/lang/AbstractStringBuilder", name := "putStringAt", desc := "(ILjava/lang/String;)V" } : Jvm.MethodName)) ∈ lw_all := lw_g (lw_at lw_m2 131 rfl) rfl
theorem q490 : (Jvm.Cond.privateMethod ({ cls := "java/lang/AbstractStringBuilder", name := "putStringAt", desc := "(ILjava/lang/String;)V" } : Jvm.MethodName)) ∈ lw_tbl := lw_at lw_m2 132 rfl
theorem q491 : (Jvm.Cond.instanceMethod ({ cls := "java/lang/AbstractStringBuilder", name := "putStringAt", desc := "(ILjava/lang/String;)V" } : Jvm.MethodName)) ∈ lw_all := lw_g (lw_at lw_m2 133 rfl) rfl
theorem q492 : (Jvm.Cond.code ({ cls := "java/lang/AbstractStringBuilder", name := "putStringAt", desc := "(ILjava/lang/String;)V" } : Jvm.MethodName) prog_44_method_73_code (3 : Nat) (Option.none : Option Jvm.ClassFile.FieldType)) ∈ lw_all := lw_g (lw_at lw_m2 134 rfl) rfl
theorem q493 : (Jvm.Cond.methodLink "java/lang/AbstractStringBuilder" (397 : Nat) ({ cls := "java/lang/AbstractStringBuilder", name := "inflateIfNeededFor", desc := "(Ljava/lang/String;)V" } : Jvm.MethodName)) ∈ lw_all := lw_g (lw_at lw_m2 135 rfl) rfl
theorem q494 : (Jvm.Cond.privateMethod ({ cls := "java/lang/AbstractStringBuilder", name := "inflateIfNeededFor", desc := "(Ljava/lang/String;)V" } : Jvm.MethodName)) ∈ lw_tbl := lw_at lw_m2 136 rfl
theorem q495 : (Jvm.Cond.instanceMethod ({ cls := "java/lang/AbstractStringBuilder", name := "inflateIfNeededFor", desc := "(Ljava/lang/String;)V" } : Jvm.MethodName)) ∈ lw_all := lw_g (lw_at lw_m2 137 rfl) rfl
theorem q496 : (Jvm.Cond.code ({ cls := "java/lang/AbstractStringBuilder", name := "inflateIfNeededFor", desc := "(Ljava/lang/String;)V" } : Jvm.MethodName) prog_44_method_71_code (2 : Nat) (Option.none : Option Jvm.ClassFile.FieldType)) ∈ lw_all := lw_g (lw_at lw_m2 138 rfl) rfl
theorem q497 : (Jvm.Cond.methodLink "java/lang/AbstractStringBuilder" (40 : Nat) ({ cls := "java/lang/String", name := "coder", desc := "()B" } : Jvm.MethodName)) ∈ lw_all := lw_g (lw_at lw_m2 139 rfl) rfl
theorem q498 : (Jvm.Cond.methodLink "java/lang/AbstractStringBuilder" (195 : Nat) ({ cls := "java/lang/AbstractStringBuilder", name := "inflate", desc := "()V" } : Jvm.MethodName)) ∈ lw_all := lw_g (lw_at lw_m2 140 rfl) rfl
theorem q499 : (Jvm.Cond.privateMethod ({ cls := "java/lang/AbstractStringBuilder", name := "inflate", desc := "()V" } : Jvm.MethodName)) ∈ lw_tbl := lw_at lw_m2 141 rfl
theorem q500 : (Jvm.Cond.instanceMethod ({ cls := "java/lang/AbstractStringBuilder", name := "inflate", desc := "()V" } : Jvm.MethodName)) ∈ lw_all := lw_g (lw_at lw_m2 142 rfl) rfl
theorem q501 : (Jvm.Cond.code ({ cls := "java/lang/AbstractStringBuilder", name := "inflate", desc := "()V" } : Jvm.MethodName) prog_44_method_11_code (2 : Nat) (Option.none : Option Jvm.ClassFile.FieldType)) ∈ lw_all := lw_g (lw_at lw_m2 143 rfl) rfl
theorem q502 : (Jvm.Cond.methodLink "java/lang/AbstractStringBuilder" (125 : Nat) ({ cls := "java/lang/StringLatin1", name := "inflate", desc := "([BI[BII)V" } : Jvm.MethodName)) ∈ lw_all := lw_g (lw_at lw_m2 144 rfl) rfl
theorem q517 : (Jvm.Cond.methodLink "java/lang/AbstractStringBuilder" (399 : Nat) ({ cls := "java/lang/String", name := "getBytes", desc := "([BIB)V" } : Jvm.MethodName)) ∈ lw_all := lw_g (lw_at lw_m2 159 rfl) rfl
theorem q528 : (Jvm.Cond.instanceMethod ({ cls := "java/lang/AbstractStringBuilder", name := "append", desc := "(I)Ljava/lang/AbstractStringBuilder;" } : Jvm.MethodName)) ∈ lw_all := lw_g (lw_at lw_m2 170 rfl) rfl
theorem q529 : (Jvm.Cond.code ({ cls := "java/lang/AbstractStringBuilder", name := "append", desc := "(I)Ljava/lang/AbstractStringBuilder;" } : Jvm.MethodName) prog_44_method_32_code (4 : Nat) (Option.some (Jvm.ClassFile.FieldType.object "java/lang/AbstractStringBuilder"))) ∈ lw_all := lw_g (lw_at lw_m2 171 rfl) rfl
theorem q530 : (Jvm.Cond.methodLink "java/lang/AbstractStringBuilder" (245 : Nat) ({ cls := "java/lang/Integer", name := "stringSize", desc := "(I)I" } : Jvm.MethodName)) ∈ lw_all := lw_g (lw_at lw_m2 172 rfl) rfl
theorem q533 : (Jvm.Cond.methodLink "java/lang/AbstractStringBuilder" (248 : Nat) ({ cls := "java/lang/Integer", name := "getChars", desc := "(II[B)I" } : Jvm.MethodName)) ∈ lw_all := lw_g (lw_at lw_m2 175 rfl) rfl
theorem q540 : (Jvm.Cond.methodLink "java/lang/AbstractStringBuilder" (251 : Nat) ({ cls := "java/lang/StringUTF16", name := "getChars", desc := "(III[B)I" } : Jvm.MethodName)) ∈ lw_all := lw_g (lw_at lw_m2 182 rfl) rfl
theorem q562 : (Jvm.Cond.instanceMethod ({ cls := "java/lang/AbstractStringBuilder", name := "getValue", desc := "()[B" } : Jvm.MethodName)) ∈ lw_all := lw_g (lw_at lw_m2 204 rfl) rfl
theorem q563 : (Jvm.Cond.sameMethod "java/lang/AbstractStringBuilder" "java/lang/AbstractStringBuilder" "getValue" "()[B") ∈ lw_all := lw_g (lw_at lw_m2 205 rfl) rfl
theorem q565 : (Jvm.Cond.code ({ cls := "java/lang/AbstractStringBuilder", name := "getValue", desc := "()[B" } : Jvm.MethodName) prog_44_method_64_code (1 : Nat) (Option.some (Jvm.ClassFile.FieldType.array Jvm.ClassFile.FieldType.byte))) ∈ lw_all := lw_g (lw_at lw_m2 207 rfl) rfl
theorem q567 : (Jvm.Cond.instanceMethod ({ cls := "java/lang/AbstractStringBuilder", name := "length", desc := "()I" } : Jvm.MethodName)) ∈ lw_all := lw_g (lw_at lw_m2 209 rfl) rfl
theorem q568 : (Jvm.Cond.sameMethod "java/lang/AbstractStringBuilder" "java/lang/AbstractStringBuilder" "length" "()I") ∈ lw_all := lw_g (lw_at lw_m2 210 rfl) rfl
theorem q573 : (Jvm.Cond.code ({ cls := "java/lang/AbstractStringBuilder", name := "length", desc := "()I" } : Jvm.MethodName) prog_44_method_6_code (1 : Nat) (Option.some Jvm.ClassFile.FieldType.int)) ∈ lw_all := lw_g (lw_at lw_m2 215 rfl) rfl
theorem q3376 : (Jvm.Cond.sameMethod "java/lang/AbstractStringBuilder" "java/lang/AbstractStringBuilder" "append" "(Ljava/lang/String;)Ljava/lang/AbstractStringBuilder;") ∈ lw_all := lw_g (lw_at lw_m14 138 rfl) rfl
theorem q3377 : (Jvm.Cond.sameMethod "java/lang/AbstractStringBuilder" "java/lang/AbstractStringBuilder" "appendNull" "()Ljava/lang/AbstractStringBuilder;") ∈ lw_all := lw_g (lw_at lw_m14 139 rfl) rfl
theorem q3378 : (Jvm.Cond.sameMethod "java/lang/AbstractStringBuilder" "java/lang/AbstractStringBuilder" "ensureCapacityInternal" "(I)V") ∈ lw_all := lw_g (lw_at lw_m14 140 rfl) rfl
theorem q3379 : (Jvm.Cond.sameMethod "java/lang/AbstractStringBuilder" "java/lang/AbstractStringBuilder" "newCapacity" "(I)I") ∈ lw_all := lw_g (lw_at lw_m14 141 rfl) rfl
theorem q3380 : (Jvm.Cond.sameMethod "java/lang/AbstractStringBuilder" "java/lang/AbstractStringBuilder" "putStringAt" "(ILjava/lang/String;)V") ∈ lw_all := lw_g (lw_at lw_m14 142 rfl) rfl
theorem q3381 : (Jvm.Cond.sameMethod "java/lang/AbstractStringBuilder" "java/lang/AbstractStringBuilder" "inflateIfNeededFor" "(Ljava/lang/String;)V") ∈ lw_all := lw_g (lw_at lw_m14 143 rfl) rfl
theorem q3382 : (Jvm.Cond.sameMethod "java/lang/AbstractStringBuilder" "java/lang/AbstractStringBuilder" "inflate" "()V") ∈ lw_all := lw_g (lw_at lw_m14 144 rfl) rfl
theorem q3383 : (Jvm.Cond.sameMethod "java/lang/AbstractStringBuilder" "java/lang/AbstractStringBuilder" "append" "(I)Ljava/lang/AbstractStringBuilder;") ∈ lw_all := lw_g (lw_at lw_m14 145 rfl) rfl
theorem q130 : (Jvm.Cond.initialized "java/lang/StringBuilder") ∈ lw_all := lw_g (lw_at lw_m1 12 rfl) rfl
theorem q372 : (Jvm.Cond.instantiable "java/lang/StringBuilder" (4 : Nat)) ∈ lw_all := lw_g (lw_at lw_m2 14 rfl) rfl
theorem q374 : (Jvm.Cond.instanceMethod ({ cls := "java/lang/StringBuilder", name := "<init>", desc := "()V" } : Jvm.MethodName)) ∈ lw_all := lw_g (lw_at lw_m2 16 rfl) rfl
theorem q375 : (Jvm.Cond.code ({ cls := "java/lang/StringBuilder", name := "<init>", desc := "()V" } : Jvm.MethodName) prog_63_method_1_code (1 : Nat) (Option.none : Option Jvm.ClassFile.FieldType)) ∈ lw_all := lw_g (lw_at lw_m2 17 rfl) rfl
theorem q376 : (Jvm.Cond.methodLink "java/lang/StringBuilder" (1 : Nat) ({ cls := "java/lang/AbstractStringBuilder", name := "<init>", desc := "(I)V" } : Jvm.MethodName)) ∈ lw_all := lw_g (lw_at lw_m2 18 rfl) rfl
theorem q393 : (Jvm.Cond.lays "java/lang/StringBuilder" "java/lang/AbstractStringBuilder" "value" "[B") ∈ lw_all := lw_g (lw_at lw_m2 35 rfl) rfl
theorem q395 : (Jvm.Cond.lays "java/lang/StringBuilder" "java/lang/AbstractStringBuilder" "coder" "B") ∈ lw_all := lw_g (lw_at lw_m2 37 rfl) rfl
theorem q397 : (Jvm.Cond.lays "java/lang/StringBuilder" "java/lang/AbstractStringBuilder" "maybeLatin1" "Z") ∈ lw_all := lw_g (lw_at lw_m2 39 rfl) rfl
theorem q399 : (Jvm.Cond.lays "java/lang/StringBuilder" "java/lang/AbstractStringBuilder" "count" "I") ∈ lw_all := lw_g (lw_at lw_m2 41 rfl) rfl
theorem q401 : (Jvm.Cond.superclass "java/lang/StringBuilder" "java/lang/AbstractStringBuilder") ∈ lw_all := lw_g (lw_at lw_m2 43 rfl) rfl
theorem q404 : (Jvm.Cond.instanceMethod ({ cls := "java/lang/StringBuilder", name := "append", desc := "(Ljava/lang/String;)Ljava/lang/StringBuilder;" } : Jvm.MethodName)) ∈ lw_all := lw_g (lw_at lw_m2 46 rfl) rfl
theorem q405 : (Jvm.Cond.selects "java/lang/StringBuilder" ({ cls := "java/lang/StringBuilder", name := "append", desc := "(Ljava/lang/String;)Ljava/lang/StringBuilder;" } : Jvm.MethodName) ({ cls := "java/lang/StringBuilder", name := "append", desc := "(Ljava/lang/String;)Ljava/lang/StringBuilder;" } : Jvm.MethodName)) ∈ lw_all := lw_g (lw_at lw_m2 47 rfl) rfl
theorem q406 : (Jvm.Cond.code ({ cls := "java/lang/StringBuilder", name := "append", desc := "(Ljava/lang/String;)Ljava/lang/StringBuilder;" } : Jvm.MethodName) prog_63_method_7_code (2 : Nat) (Option.some (Jvm.ClassFile.FieldType.object "java/lang/StringBuilder"))) ∈ lw_all := lw_g (lw_at lw_m2 48 rfl) rfl
theorem q407 : (Jvm.Cond.methodLink "java/lang/StringBuilder" (29 : Nat) ({ cls := "java/lang/AbstractStringBuilder", name := "append", desc := "(Ljava/lang/String;)Ljava/lang/AbstractStringBuilder;" } : Jvm.MethodName)) ∈ lw_all := lw_g (lw_at lw_m2 49 rfl) rfl
theorem q452 : (Jvm.Cond.selects "java/lang/StringBuilder" ({ cls := "java/lang/AbstractStringBuilder", name := "isLatin1", desc := "()Z" } : Jvm.MethodName) ({ cls := "java/lang/AbstractStringBuilder", name := "isLatin1", desc := "()Z" } : Jvm.MethodName)) ∈ lw_all := lw_g (lw_at lw_m2 94 rfl) rfl
theorem q524 : (Jvm.Cond.instanceMethod ({ cls := "java/lang/StringBuilder", name := "append", desc := "(I)Ljava/lang/StringBuilder;" } : Jvm.MethodName)) ∈ lw_all := lw_g (lw_at lw_m2 166 rfl) rfl
theorem q525 : (Jvm.Cond.selects "java/lang/StringBuilder" ({ cls := "java/lang/StringBuilder", name := "append", desc := "(I)Ljava/lang/StringBuilder;" } : Jvm.MethodName) ({ cls := "java/lang/StringBuilder", name := "append", desc := "(I)Ljava/lang/StringBuilder;" } : Jvm.MethodName)) ∈ lw_all := lw_g (lw_at lw_m2 167 rfl) rfl
theorem q526 : (Jvm.Cond.code ({ cls := "java/lang/StringBuilder", name := "append", desc := "(I)Ljava/lang/StringBuilder;" } : Jvm.MethodName) prog_63_method_15_code (2 : Nat) (Option.some (Jvm.ClassFile.FieldType.object "java/lang/StringBuilder"))) ∈ lw_all := lw_g (lw_at lw_m2 168 rfl) rfl
theorem q527 : (Jvm.Cond.methodLink "java/lang/StringBuilder" (53 : Nat) ({ cls := "java/lang/AbstractStringBuilder", name := "append", desc := "(I)Ljava/lang/AbstractStringBuilder;" } : Jvm.MethodName)) ∈ lw_all := lw_g (lw_at lw_m2 169 rfl) rfl
theorem q549 : (Jvm.Cond.instanceMethod ({ cls := "java/lang/StringBuilder", name := "toString", desc := "()Ljava/lang/String;" } : Jvm.MethodName)) ∈ lw_all := lw_g (lw_at lw_m2 191 rfl) rfl
theorem q550 : (Jvm.Cond.selects "java/lang/StringBuilder" ({ cls := "java/lang/StringBuilder", name := "toString", desc := "()Ljava/lang/String;" } : Jvm.MethodName) ({ cls := "java/lang/StringBuilder", name := "toString", desc := "()Ljava/lang/String;" } : Jvm.MethodName)) ∈ lw_all := lw_g (lw_at lw_m2 192 rfl) rfl
theorem q551 : (Jvm.Cond.code ({ cls := "java/lang/StringBuilder", name := "toString", desc := "()Ljava/lang/String;" } : Jvm.MethodName) prog_63_method_42_code (1 : Nat) (Option.some (Jvm.ClassFile.FieldType.object "java/lang/String"))) ∈ lw_all := lw_g (lw_at lw_m2 193 rfl) rfl
theorem q552 : (Jvm.Cond.classLink "java/lang/StringBuilder" (18 : Nat) "java/lang/String") ∈ lw_all := lw_g (lw_at lw_m2 194 rfl) rfl
theorem q554 : (Jvm.Cond.methodLink "java/lang/StringBuilder" (137 : Nat) ({ cls := "java/lang/String", name := "<init>", desc := "(Ljava/lang/StringBuilder;)V" } : Jvm.MethodName)) ∈ lw_all := lw_g (lw_at lw_m2 196 rfl) rfl
theorem q564 : (Jvm.Cond.selects "java/lang/StringBuilder" ({ cls := "java/lang/AbstractStringBuilder", name := "getValue", desc := "()[B" } : Jvm.MethodName) ({ cls := "java/lang/AbstractStringBuilder", name := "getValue", desc := "()[B" } : Jvm.MethodName)) ∈ lw_all := lw_g (lw_at lw_m2 206 rfl) rfl
theorem q569 : (Jvm.Cond.selects "java/lang/StringBuilder" ({ cls := "java/lang/AbstractStringBuilder", name := "length", desc := "()I" } : Jvm.MethodName) ({ cls := "java/lang/StringBuilder", name := "length", desc := "()I" } : Jvm.MethodName)) ∈ lw_all := lw_g (lw_at lw_m2 211 rfl) rfl
theorem q570 : (Jvm.Cond.instanceMethod ({ cls := "java/lang/StringBuilder", name := "length", desc := "()I" } : Jvm.MethodName)) ∈ lw_all := lw_g (lw_at lw_m2 212 rfl) rfl
theorem q571 : (Jvm.Cond.code ({ cls := "java/lang/StringBuilder", name := "length", desc := "()I" } : Jvm.MethodName) prog_63_method_93_code (1 : Nat) (Option.some Jvm.ClassFile.FieldType.int)) ∈ lw_all := lw_g (lw_at lw_m2 213 rfl) rfl
theorem q572 : (Jvm.Cond.methodLink "java/lang/StringBuilder" (343 : Nat) ({ cls := "java/lang/AbstractStringBuilder", name := "length", desc := "()I" } : Jvm.MethodName)) ∈ lw_all := lw_g (lw_at lw_m2 214 rfl) rfl
theorem q979 : (Jvm.Cond.selects "java/lang/StringBuilder" ({ cls := "java/lang/Object", name := "getClass", desc := "()Ljava/lang/Class;" } : Jvm.MethodName) ({ cls := "java/lang/Object", name := "getClass", desc := "()Ljava/lang/Class;" } : Jvm.MethodName)) ∈ lw_all := lw_g (lw_at lw_m4 141 rfl) rfl
theorem q3417 : (Jvm.Cond.castable "java/lang/StringBuilder" "java/lang/Object") ∈ lw_tbl := lw_at lw_m14 179 rfl
theorem q131 : (Jvm.Cond.initialized "java/lang/String") ∈ lw_all := lw_g (lw_at lw_m1 13 rfl) rfl
theorem q381 : (Jvm.Cond.laysStatic "java/lang/String" "COMPACT_STRINGS" "Z") ∈ lw_tbl := lw_at lw_m2 23 rfl
theorem q391 : (Jvm.Cond.fieldLink "java/lang/String" (1048 : Nat) "java/lang/AbstractStringBuilder" "maybeLatin1" "Z") ∈ lw_all := lw_g (lw_at lw_m2 33 rfl) rfl
theorem q464 : (Jvm.Cond.static ({ cls := "java/lang/String", name := "checkBoundsBeginEnd", desc := "(III)V" } : Jvm.MethodName)) ∈ lw_all := lw_g (lw_at lw_m2 106 rfl) rfl
theorem q465 : (Jvm.Cond.code ({ cls := "java/lang/String", name := "checkBoundsBeginEnd", desc := "(III)V" } : Jvm.MethodName) prog_62_method_158_code (3 : Nat) (Option.none : Option Jvm.ClassFile.FieldType)) ∈ lw_all := lw_g (lw_at lw_m2 107 rfl) rfl
theorem q466 : (Jvm.Cond.fieldLink "java/lang/String" (1053 : Nat) "jdk/internal/util/Preconditions" "SIOOBE_FORMATTER" "Ljava/util/function/BiFunction;") ∈ lw_all := lw_g (lw_at lw_m2 108 rfl) rfl
theorem q468 : (Jvm.Cond.methodLink "java/lang/String" (1062 : Nat) ({ cls := "jdk/internal/util/Preconditions", name := "checkFromToIndex", desc := "(IIILjava/util/function/BiFunction;)I" } : Jvm.MethodName)) ∈ lw_all := lw_g (lw_at lw_m2 110 rfl) rfl
theorem q481 : (Jvm.Cond.instanceMethod ({ cls := "java/lang/String", name := "length", desc := "()I" } : Jvm.MethodName)) ∈ lw_all := lw_g (lw_at lw_m2 123 rfl) rfl
theorem q482 : (Jvm.Cond.selects "java/lang/String" ({ cls := "java/lang/String", name := "length", desc := "()I" } : Jvm.MethodName) ({ cls := "java/lang/String", name := "length", desc := "()I" } : Jvm.MethodName)) ∈ lw_all := lw_g (lw_at lw_m2 124 rfl) rfl
theorem q483 : (Jvm.Cond.code ({ cls := "java/lang/String", name := "length", desc := "()I" } : Jvm.MethodName) prog_62_method_54_code (1 : Nat) (Option.some Jvm.ClassFile.FieldType.int)) ∈ lw_all := lw_g (lw_at lw_m2 125 rfl) rfl
theorem q484 : (Jvm.Cond.methodLink "java/lang/String" (335 : Nat) ({ cls := "java/lang/String", name := "coder", desc := "()B" } : Jvm.MethodName)) ∈ lw_all := lw_g (lw_at lw_m2 126 rfl) rfl
theorem q485 : (Jvm.Cond.instanceMethod ({ cls := "java/lang/String", name := "coder", desc := "()B" } : Jvm.MethodName)) ∈ lw_all := lw_g (lw_at lw_m2 127 rfl) rfl
theorem q486 : (Jvm.Cond.selects "java/lang/String" ({ cls := "java/lang/String", name := "coder", desc := "()B" } : Jvm.MethodName) ({ cls := "java/lang/String", name := "coder", desc := "()B" } : Jvm.MethodName)) ∈ lw_all := lw_g (lw_at lw_m2 128 rfl) rfl
theorem q487 : (Jvm.Cond.code ({ cls := "java/lang/String", name := "coder", desc := "()B" } : Jvm.MethodName) prog_62_method_152_code (1 : Nat) (Option.some Jvm.ClassFile.FieldType.byte)) ∈ lw_all := lw_g (lw_at lw_m2 129 rfl) rfl
theorem q488 : (Jvm.Cond.fieldLink "java/lang/String" (38 : Nat) "java/lang/String" "COMPACT_STRINGS" "Z") ∈ lw_all := lw_g (lw_at lw_m2 130 rfl) rfl
theorem q512 : (Jvm.Cond.static ({ cls := "java/lang/String", name := "checkBoundsOffCount", desc := "(III)I" } : Jvm.MethodName)) ∈ lw_all := lw_g (lw_at lw_m2 154 rfl) rfl
theorem q513 : (Jvm.Cond.code ({ cls := "java/lang/String", name := "checkBoundsOffCount", desc := "(III)I" } : Jvm.MethodName) prog_62_method_157_code (3 : Nat) (Option.some Jvm.ClassFile.FieldType.int)) ∈ lw_all := lw_g (lw_at lw_m2 155 rfl) rfl
theorem q514 : (Jvm.Cond.methodLink "java/lang/String" (1065 : Nat) ({ cls := "jdk/internal/util/Preconditions", name := "checkFromIndexSize", desc := "(IIILjava/util/function/BiFunction;)I" } : Jvm.MethodName)) ∈ lw_all := lw_g (lw_at lw_m2 156 rfl) rfl
theorem q518 : (Jvm.Cond.instanceMethod ({ cls := "java/lang/String", name := "getBytes", desc := "([BIB)V" } : Jvm.MethodName)) ∈ lw_all := lw_g (lw_at lw_m2 160 rfl) rfl
theorem q519 : (Jvm.Cond.selects "java/lang/String" ({ cls := "java/lang/String", name := "getBytes", desc := "([BIB)V" } : Jvm.MethodName) ({ cls := "java/lang/String", name := "getBytes", desc := "([BIB)V" } : Jvm.MethodName)) ∈ lw_all := lw_g (lw_at lw_m2 161 rfl) rfl
theorem q520 : (Jvm.Cond.code ({ cls := "java/lang/String", name := "getBytes", desc := "([BIB)V" } : Jvm.MethodName) prog_62_method_147_code (4 : Nat) (Option.none : Option Jvm.ClassFile.FieldType)) ∈ lw_all := lw_g (lw_at lw_m2 162 rfl) rfl
theorem q521 : (Jvm.Cond.methodLink "java/lang/String" (212 : Nat) ({ cls := "java/lang/System", name := "arraycopy", desc := "(Ljava/lang/Object;ILjava/lang/Object;II)V" } : Jvm.MethodName)) ∈ lw_all := lw_g (lw_at lw_m2 163 rfl) rfl
theorem q522 : (Jvm.Cond.methodLink "java/lang/String" (106 : Nat) ({ cls := "java/lang/StringLatin1", name := "inflate", desc := "([BI[BII)V" } : Jvm.MethodName)) ∈ lw_all := lw_g (lw_at lw_m2 164 rfl) rfl
theorem q553 : (Jvm.Cond.instantiable "java/lang/String" (4 : Nat)) ∈ lw_all := lw_g (lw_at lw_m2 195 rfl) rfl
theorem q555 : (Jvm.Cond.instanceMethod ({ cls := "java/lang/String", name := "<init>", desc := "(Ljava/lang/StringBuilder;)V" } : Jvm.MethodName)) ∈ lw_all := lw_g (lw_at lw_m2 197 rfl) rfl
theorem q556 : (Jvm.Cond.code ({ cls := "java/lang/String", name := "<init>", desc := "(Ljava/lang/StringBuilder;)V" } : Jvm.MethodName) prog_62_method_53_code (2 : Nat) (Option.none : Option Jvm.ClassFile.FieldType)) ∈ lw_all := lw_g (lw_at lw_m2 198 rfl) rfl
theorem q557 : (Jvm.Cond.methodLink "java/lang/String" (489 : Nat) ({ cls := "java/lang/String", name := "<init>", desc := "(Ljava/lang/AbstractStringBuilder;Ljava/lang/Void;)V" } : Jvm.MethodName)) ∈ lw_all := lw_g (lw_at lw_m2 199 rfl) rfl
theorem q558 : (Jvm.Cond.instanceMethod ({ cls := "java/lang/String", name := "<init>", desc := "(Ljava/lang/AbstractStringBuilder;Ljava/lang/Void;)V" } : Jvm.MethodName)) ∈ lw_all := lw_g (lw_at lw_m2 200 rfl) rfl
theorem q559 : (Jvm.Cond.code ({ cls := "java/lang/String", name := "<init>", desc := "(Ljava/lang/AbstractStringBuilder;Ljava/lang/Void;)V" } : Jvm.MethodName) prog_62_method_150_code (5 : Nat) (Option.none : Option Jvm.ClassFile.FieldType)) ∈ lw_all := lw_g (lw_at lw_m2 201 rfl) rfl
theorem q560 : (Jvm.Cond.methodLink "java/lang/String" (1 : Nat) ({ cls := "java/lang/Object", name := "<init>", desc := "()V" } : Jvm.MethodName)) ∈ lw_all := lw_g (lw_at lw_m2 202 rfl) rfl
theorem q561 : (Jvm.Cond.methodLink "java/lang/String" (552 : Nat) ({ cls := "java/lang/AbstractStringBuilder", name := "getValue", desc := "()[B" } : Jvm.MethodName)) ∈ lw_all := lw_g (lw_at lw_m2 203 rfl) rfl
theorem q566 : (Jvm.Cond.methodLink "java/lang/String" (549 : Nat) ({ cls := "java/lang/AbstractStringBuilder", name := "length", desc := "()I" } : Jvm.MethodName)) ∈ lw_all := lw_g (lw_at lw_m2 208 rfl) rfl
theorem q574 : (Jvm.Cond.methodLink "java/lang/String" (1047 : Nat) ({ cls := "java/lang/AbstractStringBuilder", name := "isLatin1", desc := "()Z" } : Jvm.MethodName)) ∈ lw_all := lw_g (lw_at lw_m2 216 rfl) rfl
theorem q575 : (Jvm.Cond.methodLink "java/lang/String" (54 : Nat) ({ cls := "java/util/Arrays", name := "copyOfRange", desc := "([BII)[B" } : Jvm.MethodName)) ∈ lw_all := lw_g (lw_at lw_m2 217 rfl) rfl
theorem q603 : (Jvm.Cond.methodLink "java/lang/String" (1051 : Nat) ({ cls := "java/lang/StringUTF16", name := "compress", desc := "([BII)[B" } : Jvm.MethodName)) ∈ lw_all := lw_g (lw_at lw_m3 5 rfl) rfl
theorem q613 : (Jvm.Cond.methodLink "java/lang/String" (47 : Nat) ({ cls := "java/lang/StringUTF16", name := "coderFromArrayLen", desc := "([BI)B" } : Jvm.MethodName)) ∈ lw_all := lw_g (lw_at lw_m3 15 rfl) rfl
theorem q616 : (Jvm.Cond.fieldLink "java/lang/String" (9 : Nat) "java/lang/String" "value" "[B") ∈ lw_all := lw_g (lw_at lw_m3 18 rfl) rfl
theorem q617 : (Jvm.Cond.fieldLink "java/lang/String" (15 : Nat) "java/lang/String" "coder" "B") ∈ lw_all := lw_g (lw_at lw_m3 19 rfl) rfl
theorem q618 : (Jvm.Cond.laysFinal "java/lang/String" "java/lang/String" "value" "[B") ∈ lw_all := lw_g (lw_at lw_m3 20 rfl) rfl
theorem q619 : (Jvm.Cond.soleField "java/lang/String" "value") ∈ lw_all := lw_g (lw_at lw_m3 21 rfl) rfl
theorem q620 : (Jvm.Cond.laysFinal "java/lang/String" "java/lang/String" "coder" "B") ∈ lw_all := lw_g (lw_at lw_m3 22 rfl) rfl
theorem q621 : (Jvm.Cond.soleField "java/lang/String" "coder") ∈ lw_all := lw_g (lw_at lw_m3 23 rfl) rfl
theorem q622 : (Jvm.Cond.lays "java/lang/String" "java/lang/String" "hash" "I") ∈ lw_all := lw_g (lw_at lw_m3 24 rfl) rfl
theorem q623 : (Jvm.Cond.soleField "java/lang/String" "hash") ∈ lw_all := lw_g (lw_at lw_m3 25 rfl) rfl
theorem q624 : (Jvm.Cond.lays "java/lang/String" "java/lang/String" "hashIsZero" "Z") ∈ lw_all := lw_g (lw_at lw_m3 26 rfl) rfl
theorem q625 : (Jvm.Cond.soleField "java/lang/String" "hashIsZero") ∈ lw_all := lw_g (lw_at lw_m3 27 rfl) rfl
theorem q626 : (Jvm.Cond.superclass "java/lang/String" "java/lang/Object") ∈ lw_all := lw_g (lw_at lw_m3 28 rfl) rfl
theorem q739 : (Jvm.Cond.instanceMethod ({ cls := "java/lang/String", name := "indexOf", desc := "(I)I" } : Jvm.MethodName)) ∈ lw_all := lw_g (lw_at lw_m3 141 rfl) rfl
theorem q740 : (Jvm.Cond.selects "java/lang/String" ({ cls := "java/lang/String", name := "indexOf", desc := "(I)I" } : Jvm.MethodName) ({ cls := "java/lang/String", name := "indexOf", desc := "(I)I" } : Jvm.MethodName)) ∈ lw_all := lw_g (lw_at lw_m3 142 rfl) rfl
theorem q741 : (Jvm.Cond.code ({ cls := "java/lang/String", name := "indexOf", desc := "(I)I" } : Jvm.MethodName) prog_62_method_79_code (2 : Nat) (Option.some Jvm.ClassFile.FieldType.int)) ∈ lw_all := lw_g (lw_at lw_m3 143 rfl) rfl
theorem q742 : (Jvm.Cond.methodLink "java/lang/String" (633 : Nat) ({ cls := "java/lang/String", name := "indexOf", desc := "(II)I" } : Jvm.MethodName)) ∈ lw_all := lw_g (lw_at lw_m3 144 rfl) rfl
theorem q743 : (Jvm.Cond.instanceMethod ({ cls := "java/lang/String", name := "indexOf", desc := "(II)I" } : Jvm.MethodName)) ∈ lw_all := lw_g (lw_at lw_m3 145 rfl) rfl
theorem q744 : (Jvm.Cond.selects "java/lang/String" ({ cls := "java/lang/String", name := "indexOf", desc := "(II)I" } : Jvm.MethodName) ({ cls := "java/lang/String", name := "indexOf", desc := "(II)I" } : Jvm.MethodName)) ∈ lw_all := lw_g (lw_at lw_m3 146 rfl) rfl
theorem q745 : (Jvm.Cond.code ({ cls := "java/lang/String", name := "indexOf", desc := "(II)I" } : Jvm.MethodName) prog_62_method_80_code (3 : Nat) (Option.some Jvm.ClassFile.FieldType.int)) ∈ lw_all := lw_g (lw_at lw_m3 147 rfl) rfl
theorem q746 : (Jvm.Cond.methodLink "java/lang/String" (492 : Nat) ({ cls := "java/lang/String", name := "isLatin1", desc := "()Z" } : Jvm.MethodName)) ∈ lw_all := lw_g (lw_at lw_m3 148 rfl) rfl
theorem q747 : (Jvm.Cond.instanceMethod ({ cls := "java/lang/String", name := "isLatin1", desc := "()Z" } : Jvm.MethodName)) ∈ lw_all := lw_g (lw_at lw_m3 149 rfl) rfl
theorem q748 : (Jvm.Cond.selects "java/lang/String" ({ cls := "java/lang/String", name := "isLatin1", desc := "()Z" } : Jvm.MethodName) ({ cls := "java/lang/String", name := "isLatin1", desc := "()Z" } : Jvm.MethodName)) ∈ lw_all := lw_g (lw_at lw_m3 150 rfl) rfl
theorem q749 : (Jvm.Cond.code ({ cls := "java/lang/String", name := "isLatin1", desc := "()Z" } : Jvm.MethodName) prog_62_method_154_code (1 : Nat) (Option.some Jvm.ClassFile.FieldType.boolean)) ∈ lw_all := lw_g (lw_at lw_m3 151 rfl) rfl
theorem q750 : (Jvm.Cond.methodLink "java/lang/String" (505 : Nat) ({ cls := "java/lang/String", name := "length", desc := "()I" } : Jvm.MethodName)) ∈ lw_all := lw_g (lw_at lw_m3 152 rfl) rfl
theorem q751 : (Jvm.Cond.methodLink "java/lang/String" (637 : Nat) ({ cls := "java/lang/StringLatin1", name := "indexOf", desc := "([BIII)I" } : Jvm.MethodName)) ∈ lw_all := lw_g (lw_at lw_m3 153 rfl) rfl
theorem q762 : (Jvm.Cond.methodLink "java/lang/String" (640 : Nat) ({ cls := "java/lang/StringUTF16", name := "indexOf", desc := "([BIII)I" } : Jvm.MethodName)) ∈ lw_all := lw_g (lw_at lw_m3 164 rfl) rfl
theorem q798 : (Jvm.Cond.instanceMethod ({ cls := "java/lang/String", name := "charAt", desc := "(I)C" } : Jvm.MethodName)) ∈ lw_all := lw_g (lw_at lw_m3 200 rfl) rfl
theorem q799 : (Jvm.Cond.selects "java/lang/String" ({ cls := "java/lang/String", name := "charAt", desc := "(I)C" } : Jvm.MethodName) ({ cls := "java/lang/String", name := "charAt", desc := "(I)C" } : Jvm.MethodName)) ∈ lw_all := lw_g (lw_at lw_m3 201 rfl) rfl
theorem q800 : (Jvm.Cond.code ({ cls := "java/lang/String", name := "charAt", desc := "(I)C" } : Jvm.MethodName) prog_62_method_56_code (2 : Nat) (Option.some Jvm.ClassFile.FieldType.char)) ∈ lw_all := lw_g (lw_at lw_m3 202 rfl) rfl
theorem q801 : (Jvm.Cond.methodLink "java/lang/String" (495 : Nat) ({ cls := "java/lang/StringLatin1", name := "charAt", desc := "([BI)C" } : Jvm.MethodName)) ∈ lw_all := lw_g (lw_at lw_m3 203 rfl) rfl
theorem q805 : (Jvm.Cond.static ({ cls := "java/lang/String", name := "checkIndex", desc := "(II)V" } : Jvm.MethodName)) ∈ lw_all := lw_g (lw_at lw_m3 207 rfl) rfl
theorem q806 : (Jvm.Cond.code ({ cls := "java/lang/String", name := "checkIndex", desc := "(II)V" } : Jvm.MethodName) prog_62_method_155_code (2 : Nat) (Option.none : Option Jvm.ClassFile.FieldType)) ∈ lw_all := lw_g (lw_at lw_m3 208 rfl) rfl
theorem q807 : (Jvm.Cond.methodLink "java/lang/String" (1059 : Nat) ({ cls := "jdk/internal/util/Preconditions", name := "checkIndex", desc := "(IILjava/util/function/BiFunction;)I" } : Jvm.MethodName)) ∈ lw_all := lw_g (lw_at lw_m3 209 rfl) rfl
theorem q810 : (Jvm.Cond.methodLink "java/lang/String" (498 : Nat) ({ cls := "java/lang/StringUTF16", name := "charAt", desc := "([BI)C" } : Jvm.MethodName)) ∈ lw_all := lw_g (lw_at lw_m3 212 rfl) rfl
theorem q978 : (Jvm.Cond.selects "java/lang/String" ({ cls := "java/lang/Object", name := "getClass", desc := "()Ljava/lang/Class;" } : Jvm.MethodName) ({ cls := "java/lang/Object", name := "getClass", desc := "()Ljava/lang/Class;" } : Jvm.MethodName)) ∈ lw_all := lw_g (lw_at lw_m4 140 rfl) rfl
theorem q3411 : (Jvm.Cond.castable "java/lang/String" "java/lang/Object") ∈ lw_tbl := lw_at lw_m14 173 rfl
theorem q132 : (Jvm.Cond.initialized "java/lang/StringUTF16") ∈ lw_all := lw_g (lw_at lw_m1 14 rfl) rfl
theorem q383 : (Jvm.Cond.static ({ cls := "java/lang/StringUTF16", name := "newBytesFor", desc := "(I)[B" } : Jvm.MethodName)) ∈ lw_all := lw_g (lw_at lw_m2 25 rfl) rfl
theorem q384 : (Jvm.Cond.code ({ cls := "java/lang/StringUTF16", name := "newBytesFor", desc := "(I)[B" } : Jvm.MethodName) prog_65_method_2_code (1 : Nat) (Option.some (Jvm.ClassFile.FieldType.array Jvm.ClassFile.FieldType.byte))) ∈ lw_all := lw_g (lw_at lw_m2 26 rfl) rfl
theorem q385 : (Jvm.Cond.methodLink "java/lang/StringUTF16" (11 : Nat) ({ cls := "java/lang/StringUTF16", name := "newBytesLength", desc := "(I)I" } : Jvm.MethodName)) ∈ lw_all := lw_g (lw_at lw_m2 27 rfl) rfl
theorem q386 : (Jvm.Cond.static ({ cls := "java/lang/StringUTF16", name := "newBytesLength", desc := "(I)I" } : Jvm.MethodName)) ∈ lw_all := lw_g (lw_at lw_m2 28 rfl) rfl
theorem q387 : (Jvm.Cond.code ({ cls := "java/lang/StringUTF16", name := "newBytesLength", desc := "(I)I" } : Jvm.MethodName) prog_65_method_3_code (1 : Nat) (Option.some Jvm.ClassFile.FieldType.int)) ∈ lw_all := lw_g (lw_at lw_m2 29 rfl) rfl
theorem q388 : (Jvm.Cond.constant "java/lang/StringUTF16" (20 : Nat) (1073741823 : Int32)) ∈ lw_all := lw_g (lw_at lw_m2 30 rfl) rfl
theorem q455 : (Jvm.Cond.static ({ cls := "java/lang/StringUTF16", name := "putCharsAt", desc := "([BICCCC)I" } : Jvm.MethodName)) ∈ lw_all := lw_g (lw_at lw_m2 97 rfl) rfl
theorem q456 : (Jvm.Cond.code ({ cls := "java/lang/StringUTF16", name := "putCharsAt", desc := "([BICCCC)I" } : Jvm.MethodName) prog_65_method_81_code (7 : Nat) (Option.some Jvm.ClassFile.FieldType.int)) ∈ lw_all := lw_g (lw_at lw_m2 98 rfl) rfl
theorem q457 : (Jvm.Cond.methodLink "java/lang/StringUTF16" (96 : Nat) ({ cls := "java/lang/StringUTF16", name := "checkBoundsBeginEnd", desc := "(II[B)V" } : Jvm.MethodName)) ∈ lw_all := lw_g (lw_at lw_m2 99 rfl) rfl
theorem q458 : (Jvm.Cond.static ({ cls := "java/lang/StringUTF16", name := "checkBoundsBeginEnd", desc := "(II[B)V" } : Jvm.MethodName)) ∈ lw_all := lw_g (lw_at lw_m2 100 rfl) rfl
theorem q459 : (Jvm.Cond.code ({ cls := "java/lang/StringUTF16", name := "checkBoundsBeginEnd", desc := "(II[B)V" } : Jvm.MethodName) prog_65_method_93_code (3 : Nat) (Option.none : Option Jvm.ClassFile.FieldType)) ∈ lw_all := lw_g (lw_at lw_m2 101 rfl) rfl
theorem q460 : (Jvm.Cond.methodLink "java/lang/StringUTF16" (48 : Nat) ({ cls := "java/lang/StringUTF16", name := "length", desc := "([B)I" } : Jvm.MethodName)) ∈ lw_all := lw_g (lw_at lw_m2 102 rfl) rfl
theorem q461 : (Jvm.Cond.static ({ cls := "java/lang/StringUTF16", name := "length", desc := "([B)I" } : Jvm.MethodName)) ∈ lw_all := lw_g (lw_at lw_m2 103 rfl) rfl
theorem q462 : (Jvm.Cond.code ({ cls := "java/lang/StringUTF16", name := "length", desc := "([B)I" } : Jvm.MethodName) prog_65_method_6_code (1 : Nat) (Option.some Jvm.ClassFile.FieldType.int)) ∈ lw_all := lw_g (lw_at lw_m2 104 rfl) rfl
theorem q463 : (Jvm.Cond.methodLink "java/lang/StringUTF16" (241 : Nat) ({ cls := "java/lang/String", name := "checkBoundsBeginEnd", desc := "(III)V" } : Jvm.MethodName)) ∈ lw_all := lw_g (lw_at lw_m2 105 rfl) rfl
theorem q471 : (Jvm.Cond.methodLink "java/lang/StringUTF16" (111 : Nat) ({ cls := "java/lang/StringUTF16", name := "putChar", desc := "([BII)V" } : Jvm.MethodName)) ∈ lw_all := lw_g (lw_at lw_m2 113 rfl) rfl
theorem q472 : (Jvm.Cond.static ({ cls := "java/lang/StringUTF16", name := "putChar", desc := "([BII)V" } : Jvm.MethodName)) ∈ lw_all := lw_g (lw_at lw_m2 114 rfl) rfl
theorem q473 : (Jvm.Cond.code ({ cls := "java/lang/StringUTF16", name := "putChar", desc := "([BII)V" } : Jvm.MethodName) prog_65_method_4_code (3 : Nat) (Option.none : Option Jvm.ClassFile.FieldType)) ∈ lw_all := lw_g (lw_at lw_m2 115 rfl) rfl
theorem q474 : (Jvm.Cond.fieldLink "java/lang/StringUTF16" (44 : Nat) "java/lang/StringUTF16" "$assertionsDisabled" "Z") ∈ lw_all := lw_g (lw_at lw_m2 116 rfl) rfl
theorem q475 : (Jvm.Cond.laysStatic "java/lang/StringUTF16" "$assertionsDisabled" "Z") ∈ lw_tbl := lw_at lw_m2 117 rfl
theorem q476 : (Jvm.Cond.fieldLink "java/lang/StringUTF16" (59 : Nat) "java/lang/StringUTF16" "HI_BYTE_SHIFT" "I") ∈ lw_all := lw_g (lw_at lw_m2 118 rfl) rfl
theorem q477 : (Jvm.Cond.laysStatic "java/lang/StringUTF16" "HI_BYTE_SHIFT" "I") ∈ lw_tbl := lw_at lw_m2 119 rfl
theorem q478 : (Jvm.Cond.fieldLink "java/lang/StringUTF16" (63 : Nat) "java/lang/StringUTF16" "LO_BYTE_SHIFT" "I") ∈ lw_all := lw_g (lw_at lw_m2 120 rfl) rfl
theorem q479 : (Jvm.Cond.laysStatic "java/lang/StringUTF16" "LO_BYTE_SHIFT" "I") ∈ lw_tbl := lw_at lw_m2 121 rfl
theorem q506 : (Jvm.Cond.static ({ cls := "java/lang/StringUTF16", name := "inflate", desc := "([BI[BII)V" } : Jvm.MethodName)) ∈ lw_all := lw_g (lw_at lw_m2 148 rfl) rfl
theorem q507 : (Jvm.Cond.code ({ cls := "java/lang/StringUTF16", name := "inflate", desc := "([BI[BII)V" } : Jvm.MethodName) prog_65_method_86_code (6 : Nat) (Option.none : Option Jvm.ClassFile.FieldType)) ∈ lw_all := lw_g (lw_at lw_m2 149 rfl) rfl
theorem q508 : (Jvm.Cond.methodLink "java/lang/StringUTF16" (173 : Nat) ({ cls := "java/lang/StringUTF16", name := "checkBoundsOffCount", desc := "(II[B)V" } : Jvm.MethodName)) ∈ lw_all := lw_g (lw_at lw_m2 150 rfl) rfl
theorem q509 : (Jvm.Cond.static ({ cls := "java/lang/StringUTF16", name := "checkBoundsOffCount", desc := "(II[B)V" } : Jvm.MethodName)) ∈ lw_all := lw_g (lw_at lw_m2 151 rfl) rfl
theorem q510 : (Jvm.Cond.code ({ cls := "java/lang/StringUTF16", name := "checkBoundsOffCount", desc := "(II[B)V" } : Jvm.MethodName) prog_65_method_94_code (3 : Nat) (Option.none : Option Jvm.ClassFile.FieldType)) ∈ lw_all := lw_g (lw_at lw_m2 152 rfl) rfl
theorem q511 : (Jvm.Cond.methodLink "java/lang/StringUTF16" (419 : Nat) ({ cls := "java/lang/String", name := "checkBoundsOffCount", desc := "(III)I" } : Jvm.MethodName)) ∈ lw_all := lw_g (lw_at lw_m2 153 rfl) rfl
theorem q541 : (Jvm.Cond.static ({ cls := "java/lang/StringUTF16", name := "getChars", desc := "(III[B)I" } : Jvm.MethodName)) ∈ lw_all := lw_g (lw_at lw_m2 183 rfl) rfl
theorem q542 : (Jvm.Cond.code ({ cls := "java/lang/StringUTF16", name := "getChars", desc := "(III[B)I" } : Jvm.MethodName) prog_65_method_77_code (5 : Nat) (Option.some Jvm.ClassFile.FieldType.int)) ∈ lw_all := lw_g (lw_at lw_m2 184 rfl) rfl
theorem q543 : (Jvm.Cond.methodLink "java/lang/StringUTF16" (393 : Nat) ({ cls := "java/lang/StringUTF16", name := "getChars", desc := "(II[B)I" } : Jvm.MethodName)) ∈ lw_all := lw_g (lw_at lw_m2 185 rfl) rfl
theorem q544 : (Jvm.Cond.static ({ cls := "java/lang/StringUTF16", name := "getChars", desc := "(II[B)I" } : Jvm.MethodName)) ∈ lw_all := lw_g (lw_at lw_m2 186 rfl) rfl
theorem q545 : (Jvm.Cond.code ({ cls := "java/lang/StringUTF16", name := "getChars", desc := "(II[B)I" } : Jvm.MethodName) prog_65_method_89_code (7 : Nat) (Option.some Jvm.ClassFile.FieldType.int)) ∈ lw_all := lw_g (lw_at lw_m2 187 rfl) rfl
theorem q546 : (Jvm.Cond.fieldLink "java/lang/StringUTF16" (403 : Nat) "java/lang/Integer" "DigitOnes" "[B") ∈ lw_all := lw_g (lw_at lw_m2 188 rfl) rfl
theorem q547 : (Jvm.Cond.fieldLink "java/lang/StringUTF16" (407 : Nat) "java/lang/Integer" "DigitTens" "[B") ∈ lw_all := lw_g (lw_at lw_m2 189 rfl) rfl
theorem q604 : (Jvm.Cond.static ({ cls := "java/lang/StringUTF16", name := "compress", desc := "([BII)[B" } : Jvm.MethodName)) ∈ lw_all := lw_g (lw_at lw_m3 6 rfl) rfl
theorem q605 : (Jvm.Cond.code ({ cls := "java/lang/StringUTF16", name := "compress", desc := "([BII)[B" } : Jvm.MethodName) prog_65_method_17_code (6 : Nat) (Option.some (Jvm.ClassFile.FieldType.array Jvm.ClassFile.FieldType.byte))) ∈ lw_all := lw_g (lw_at lw_m3 7 rfl) rfl
theorem q606 : (Jvm.Cond.methodLink "java/lang/StringUTF16" (123 : Nat) ({ cls := "java/lang/StringUTF16", name := "compress", desc := "([BI[BII)I" } : Jvm.MethodName)) ∈ lw_all := lw_g (lw_at lw_m3 8 rfl) rfl
theorem q607 : (Jvm.Cond.static ({ cls := "java/lang/StringUTF16", name := "compress", desc := "([BI[BII)I" } : Jvm.MethodName)) ∈ lw_all := lw_g (lw_at lw_m3 9 rfl) rfl
theorem q608 : (Jvm.Cond.code ({ cls := "java/lang/StringUTF16", name := "compress", desc := "([BI[BII)I" } : Jvm.MethodName) prog_65_method_22_code (7 : Nat) (Option.some Jvm.ClassFile.FieldType.int)) ∈ lw_all := lw_g (lw_at lw_m3 10 rfl) rfl
theorem q609 : (Jvm.Cond.methodLink "java/lang/StringUTF16" (71 : Nat) ({ cls := "java/lang/StringUTF16", name := "getChar", desc := "([BI)C" } : Jvm.MethodName)) ∈ lw_all := lw_g (lw_at lw_m3 11 rfl) rfl
theorem q610 : (Jvm.Cond.static ({ cls := "java/lang/StringUTF16", name := "getChar", desc := "([BI)C" } : Jvm.MethodName)) ∈ lw_all := lw_g (lw_at lw_m3 12 rfl) rfl
theorem q611 : (Jvm.Cond.code ({ cls := "java/lang/StringUTF16", name := "getChar", desc := "([BI)C" } : Jvm.MethodName) prog_65_method_5_code (2 : Nat) (Option.some Jvm.ClassFile.FieldType.char)) ∈ lw_all := lw_g (lw_at lw_m3 13 rfl) rfl
theorem q612 : (Jvm.Cond.methodLink "java/lang/StringUTF16" (126 : Nat) ({ cls := "java/util/Arrays", name := "copyOfRange", desc := "([BII)[B" } : Jvm.MethodName)) ∈ lw_all := lw_g (lw_at lw_m3 14 rfl) rfl
theorem q614 : (Jvm.Cond.static ({ cls := "java/lang/StringUTF16", name := "coderFromArrayLen", desc := "([BI)B" } : Jvm.MethodName)) ∈ lw_all := lw_g (lw_at lw_m3 16 rfl) rfl
theorem q615 : (Jvm.Cond.code ({ cls := "java/lang/StringUTF16", name := "coderFromArrayLen", desc := "([BI)B" } : Jvm.MethodName) prog_65_method_15_code (2 : Nat) (Option.some Jvm.ClassFile.FieldType.byte)) ∈ lw_all := lw_g (lw_at lw_m3 17 rfl) rfl
theorem q763 : (Jvm.Cond.static ({ cls := "java/lang/StringUTF16", name := "indexOf", desc := "([BIII)I" } : Jvm.MethodName)) ∈ lw_all := lw_g (lw_at lw_m3 165 rfl) rfl
theorem q764 : (Jvm.Cond.code ({ cls := "java/lang/StringUTF16", name := "indexOf", desc := "([BIII)I" } : Jvm.MethodName) prog_65_method_40_code (4 : Nat) (Option.some Jvm.ClassFile.FieldType.int)) ∈ lw_all := lw_g (lw_at lw_m3 166 rfl) rfl
theorem q765 : (Jvm.Cond.methodLink "java/lang/StringUTF16" (224 : Nat) ({ cls := "java/lang/Math", name := "max", desc := "(II)I" } : Jvm.MethodName)) ∈ lw_all := lw_g (lw_at lw_m3 167 rfl) rfl
theorem q766 : (Jvm.Cond.methodLink "java/lang/StringUTF16" (183 : Nat) ({ cls := "java/lang/Math", name := "min", desc := "(II)I" } : Jvm.MethodName)) ∈ lw_all := lw_g (lw_at lw_m3 168 rfl) rfl
theorem q767 : (Jvm.Cond.constant "java/lang/StringUTF16" (227 : Nat) (65536 : Int32)) ∈ lw_all := lw_g (lw_at lw_m3 169 rfl) rfl
theorem q768 : (Jvm.Cond.methodLink "java/lang/StringUTF16" (228 : Nat) ({ cls := "java/lang/StringUTF16", name := "indexOfChar", desc := "([BIII)I" } : Jvm.MethodName)) ∈ lw_all := lw_g (lw_at lw_m3 170 rfl) rfl
theorem q769 : (Jvm.Cond.static ({ cls := "java/lang/StringUTF16", name := "indexOfChar", desc := "([BIII)I" } : Jvm.MethodName)) ∈ lw_all := lw_g (lw_at lw_m3 171 rfl) rfl
theorem q770 : (Jvm.Cond.code ({ cls := "java/lang/StringUTF16", name := "indexOfChar", desc := "([BIII)I" } : Jvm.MethodName) prog_65_method_47_code (4 : Nat) (Option.some Jvm.ClassFile.FieldType.int)) ∈ lw_all := lw_g (lw_at lw_m3 172 rfl) rfl
theorem q771 : (Jvm.Cond.methodLink "java/lang/StringUTF16" (244 : Nat) ({ cls := "java/lang/StringUTF16", name := "indexOfCharUnsafe", desc := "([BIII)I" } : Jvm.MethodName)) ∈ lw_all := lw_g (lw_at lw_m3 173 rfl) rfl
theorem q772 : (Jvm.Cond.static ({ cls := "java/lang/StringUTF16", name := "indexOfCharUnsafe", desc := "([BIII)I" } : Jvm.MethodName)) ∈ lw_all := lw_g (lw_at lw_m3 174 rfl) rfl
theorem q773 : (Jvm.Cond.code ({ cls := "java/lang/StringUTF16", name := "indexOfCharUnsafe", desc := "([BIII)I" } : Jvm.MethodName) prog_65_method_48_code (5 : Nat) (Option.some Jvm.ClassFile.FieldType.int)) ∈ lw_all := lw_g (lw_at lw_m3 175 rfl) rfl
theorem q774 : (Jvm.Cond.methodLink "java/lang/StringUTF16" (232 : Nat) ({ cls := "java/lang/StringUTF16", name := "indexOfSupplementary", desc := "([BIII)I" } : Jvm.MethodName)) ∈ lw_all := lw_g (lw_at lw_m3 176 rfl) rfl
theorem q775 : (Jvm.Cond.static ({ cls := "java/lang/StringUTF16", name := "indexOfSupplementary", desc := "([BIII)I" } : Jvm.MethodName)) ∈ lw_all := lw_g (lw_at lw_m3 177 rfl) rfl
theorem q776 : (Jvm.Cond.code ({ cls := "java/lang/StringUTF16", name := "indexOfSupplementary", desc := "([BIII)I" } : Jvm.MethodName) prog_65_method_49_code (7 : Nat) (Option.some Jvm.ClassFile.FieldType.int)) ∈ lw_all := lw_g (lw_at lw_m3 178 rfl) rfl
theorem q777 : (Jvm.Cond.methodLink "java/lang/StringUTF16" (164 : Nat) ({ cls := "java/lang/Character", name := "isValidCodePoint", desc := "(I)Z" } : Jvm.MethodName)) ∈ lw_all := lw_g (lw_at lw_m3 179 rfl) rfl
theorem q780 : (Jvm.Cond.methodLink "java/lang/StringUTF16" (157 : Nat) ({ cls := "java/lang/Character", name := "highSurrogate", desc := "(I)C" } : Jvm.MethodName)) ∈ lw_all := lw_g (lw_at lw_m3 182 rfl) rfl
theorem q784 : (Jvm.Cond.methodLink "java/lang/StringUTF16" (161 : Nat) ({ cls := "java/lang/Character", name := "lowSurrogate", desc := "(I)C" } : Jvm.MethodName)) ∈ lw_all := lw_g (lw_at lw_m3 186 rfl) rfl
theorem q811 : (Jvm.Cond.static ({ cls := "java/lang/StringUTF16", name := "charAt", desc := "([BI)C" } : Jvm.MethodName)) ∈ lw_all := lw_g (lw_at lw_m3 213 rfl) rfl
theorem q812 : (Jvm.Cond.code ({ cls := "java/lang/StringUTF16", name := "charAt", desc := "([BI)C" } : Jvm.MethodName) prog_65_method_83_code (2 : Nat) (Option.some Jvm.ClassFile.FieldType.char)) ∈ lw_all := lw_g (lw_at lw_m3 214 rfl) rfl
theorem q813 : (Jvm.Cond.methodLink "java/lang/StringUTF16" (67 : Nat) ({ cls := "java/lang/StringUTF16", name := "checkIndex", desc := "(I[B)V" } : Jvm.MethodName)) ∈ lw_all := lw_g (lw_at lw_m3 215 rfl) rfl
theorem q814 : (Jvm.Cond.static ({ cls := "java/lang/StringUTF16", name := "checkIndex", desc := "(I[B)V" } : Jvm.MethodName)) ∈ lw_all := lw_g (lw_at lw_m3 216 rfl) rfl
theorem q815 : (Jvm.Cond.code ({ cls := "java/lang/StringUTF16", name := "checkIndex", desc := "(I[B)V" } : Jvm.MethodName) prog_65_method_91_code (2 : Nat) (Option.none : Option Jvm.ClassFile.FieldType)) ∈ lw_all := lw_g (lw_at lw_m3 217 rfl) rfl
theorem q816 : (Jvm.Cond.methodLink "java/lang/StringUTF16" (414 : Nat) ({ cls := "java/lang/String", name := "checkIndex", desc := "(II)V" } : Jvm.MethodName)) ∈ lw_all := lw_g (lw_at lw_m3 218 rfl) rfl
theorem q133 : (Jvm.Cond.initialized "jdk/internal/util/ArraysSupport") ∈ lw_all := lw_g (lw_at lw_m1 15 rfl) rfl
theorem q423 : (Jvm.Cond.static ({ cls := "jdk/internal/util/ArraysSupport", name := "newLength", desc := "(III)I" } : Jvm.MethodName)) ∈ lw_all := lw_g (lw_at lw_m2 65 rfl) rfl
theorem q424 : (Jvm.Cond.code ({ cls := "jdk/internal/util/ArraysSupport", name := "newLength", desc := "(III)I" } : Jvm.MethodName) prog_79_method_27_code (4 : Nat) (Option.some Jvm.ClassFile.FieldType.int)) ∈ lw_all := lw_g (lw_at lw_m2 66 rfl) rfl
theorem q425 : (Jvm.Cond.methodLink "jdk/internal/util/ArraysSupport" (194 : Nat) ({ cls := "java/lang/Math", name := "max", desc := "(II)I" } : Jvm.MethodName)) ∈ lw_all := lw_g (lw_at lw_m2 67 rfl) rfl
theorem q428 : (Jvm.Cond.constant "jdk/internal/util/ArraysSupport" (200 : Nat) (2147483639 : Int32)) ∈ lw_all := lw_g (lw_at lw_m2 70 rfl) rfl
theorem q429 : (Jvm.Cond.methodLink "jdk/internal/util/ArraysSupport" (201 : Nat) ({ cls := "jdk/internal/util/ArraysSupport", name := "hugeLength", desc := "(II)I" } : Jvm.MethodName)) ∈ lw_all := lw_g (lw_at lw_m2 71 rfl) rfl
theorem q430 : (Jvm.Cond.static ({ cls := "jdk/internal/util/ArraysSupport", name := "hugeLength", desc := "(II)I" } : Jvm.MethodName)) ∈ lw_all := lw_g (lw_at lw_m2 72 rfl) rfl
theorem q431 : (Jvm.Cond.code ({ cls := "jdk/internal/util/ArraysSupport", name := "hugeLength", desc := "(II)I" } : Jvm.MethodName) prog_79_method_28_code (3 : Nat) (Option.some Jvm.ClassFile.FieldType.int)) ∈ lw_all := lw_g (lw_at lw_m2 73 rfl) rfl
theorem q134 : (Jvm.Cond.initialized "java/lang/Math") ∈ lw_all := lw_g (lw_at lw_m1 16 rfl) rfl
theorem q426 : (Jvm.Cond.static ({ cls := "java/lang/Math", name := "max", desc := "(II)I" } : Jvm.MethodName)) ∈ lw_all := lw_g (lw_at lw_m2 68 rfl) rfl
theorem q427 : (Jvm.Cond.code ({ cls := "java/lang/Math", name := "max", desc := "(II)I" } : Jvm.MethodName) prog_58_method_65_code (2 : Nat) (Option.some Jvm.ClassFile.FieldType.int)) ∈ lw_all := lw_g (lw_at lw_m2 69 rfl) rfl
theorem q444 : (Jvm.Cond.static ({ cls := "java/lang/Math", name := "min", desc := "(II)I" } : Jvm.MethodName)) ∈ lw_all := lw_g (lw_at lw_m2 86 rfl) rfl
theorem q445 : (Jvm.Cond.code ({ cls := "java/lang/Math", name := "min", desc := "(II)I" } : Jvm.MethodName) prog_58_method_69_code (2 : Nat) (Option.some Jvm.ClassFile.FieldType.int)) ∈ lw_all := lw_g (lw_at lw_m2 87 rfl) rfl
theorem q135 : (Jvm.Cond.initialized "java/util/Arrays") ∈ lw_all := lw_g (lw_at lw_m1 17 rfl) rfl
theorem q434 : (Jvm.Cond.static ({ cls := "java/util/Arrays", name := "copyOf", desc := "([BI)[B" } : Jvm.MethodName)) ∈ lw_all := lw_g (lw_at lw_m2 76 rfl) rfl
theorem q435 : (Jvm.Cond.code ({ cls := "java/util/Arrays", name := "copyOf", desc := "([BI)[B" } : Jvm.MethodName) prog_73_method_121_code (3 : Nat) (Option.some (Jvm.ClassFile.FieldType.array Jvm.ClassFile.FieldType.byte))) ∈ lw_all := lw_g (lw_at lw_m2 77 rfl) rfl
theorem q436 : (Jvm.Cond.methodLink "java/util/Arrays" (310 : Nat) ({ cls := "[B", name := "clone", desc := "()Ljava/lang/Object;" } : Jvm.MethodName)) ∈ lw_all := lw_g (lw_at lw_m2 78 rfl) rfl
theorem q442 : (Jvm.Cond.classLink "java/util/Arrays" (311 : Nat) "[B") ∈ lw_all := lw_g (lw_at lw_m2 84 rfl) rfl
theorem q443 : (Jvm.Cond.methodLink "java/util/Arrays" (304 : Nat) ({ cls := "java/lang/Math", name := "min", desc := "(II)I" } : Jvm.MethodName)) ∈ lw_all := lw_g (lw_at lw_m2 85 rfl) rfl
theorem q446 : (Jvm.Cond.methodLink "java/util/Arrays" (150 : Nat) ({ cls := "java/lang/System", name := "arraycopy", desc := "(Ljava/lang/Object;ILjava/lang/Object;II)V" } : Jvm.MethodName)) ∈ lw_all := lw_g (lw_at lw_m2 88 rfl) rfl
theorem q576 : (Jvm.Cond.static ({ cls := "java/util/Arrays", name := "copyOfRange", desc := "([BII)[B" } : Jvm.MethodName)) ∈ lw_all := lw_g (lw_at lw_m2 218 rfl) rfl
theorem q577 : (Jvm.Cond.code ({ cls := "java/util/Arrays", name := "copyOfRange", desc := "([BII)[B" } : Jvm.MethodName) prog_73_method_132_code (3 : Nat) (Option.some (Jvm.ClassFile.FieldType.array Jvm.ClassFile.FieldType.byte))) ∈ lw_all := lw_g (lw_at lw_m2 219 rfl) rfl
theorem q578 : (Jvm.Cond.methodLink "java/util/Arrays" (339 : Nat) ({ cls := "java/util/Arrays", name := "copyOfRangeByte", desc := "([BII)[B" } : Jvm.MethodName)) ∈ lw_all := lw_g (lw_at lw_m2 220 rfl) rfl
theorem q579 : (Jvm.Cond.static ({ cls := "java/util/Arrays", name := "copyOfRangeByte", desc := "([BII)[B" } : Jvm.MethodName)) ∈ lw_all := lw_g (lw_at lw_m2 221 rfl) rfl
theorem q580 : (Jvm.Cond.code ({ cls := "java/util/Arrays", name := "copyOfRangeByte", desc := "([BII)[B" } : Jvm.MethodName) prog_73_method_133_code (5 : Nat) (Option.some (Jvm.ClassFile.FieldType.array Jvm.ClassFile.FieldType.byte))) ∈ lw_all := lw_g (lw_at lw_m2 222 rfl) rfl
theorem q581 : (Jvm.Cond.methodLink "java/util/Arrays" (343 : Nat) ({ cls := "java/util/Arrays", name := "checkLength", desc := "(II)V" } : Jvm.MethodName)) ∈ lw_all := lw_g (lw_at lw_m2 223 rfl) rfl
theorem q582 : (Jvm.Cond.static ({ cls := "java/util/Arrays", name := "checkLength", desc := "(II)V" } : Jvm.MethodName)) ∈ lw_all := lw_g (lw_at lw_m2 224 rfl) rfl
theorem q583 : (Jvm.Cond.code ({ cls := "java/util/Arrays", name := "checkLength", desc := "(II)V" } : Jvm.MethodName) prog_73_method_131_code (2 : Nat) (Option.none : Option Jvm.ClassFile.FieldType)) ∈ lw_all := lw_g (lw_at lw_m2 225 rfl) rfl
theorem q584 : (Jvm.Cond.classLink "java/util/Arrays" (43 : Nat) "java/lang/IllegalArgumentException") ∈ lw_all := lw_g (lw_at lw_m2 226 rfl) rfl
theorem q585 : (Jvm.Cond.classLink "java/util/Arrays" (45 : Nat) "java/lang/StringBuilder") ∈ lw_all := lw_g (lw_at lw_m2 227 rfl) rfl
theorem q586 : (Jvm.Cond.methodLink "java/util/Arrays" (47 : Nat) ({ cls := "java/lang/StringBuilder", name := "<init>", desc := "()V" } : Jvm.MethodName)) ∈ lw_all := lw_g (lw_at lw_m2 228 rfl) rfl
theorem q587 : (Jvm.Cond.methodLink "java/util/Arrays" (54 : Nat) ({ cls := "java/lang/StringBuilder", name := "append", desc := "(I)Ljava/lang/StringBuilder;" } : Jvm.MethodName)) ∈ lw_all := lw_g (lw_at lw_m2 229 rfl) rfl
theorem q588 : (Jvm.Cond.stringRef "java/util/Arrays" (337 : Nat) " > ") ∈ lw_tbl := lw_at lw_m2 230 rfl
theorem q589 : (Jvm.Cond.methodLink "java/util/Arrays" (50 : Nat) ({ cls := "java/lang/StringBuilder", name := "append", desc := "(Ljava/lang/String;)Ljava/lang/StringBuilder;" } : Jvm.MethodName)) ∈ lw_all := lw_g (lw_at lw_m2 231 rfl) rfl
theorem q590 : (Jvm.Cond.methodLink "java/util/Arrays" (61 : Nat) ({ cls := "java/lang/StringBuilder", name := "toString", desc := "()Ljava/lang/String;" } : Jvm.MethodName)) ∈ lw_all := lw_g (lw_at lw_m2 232 rfl) rfl
theorem q591 : (Jvm.Cond.methodLink "java/util/Arrays" (65 : Nat) ({ cls := "java/lang/IllegalArgumentException", name := "<init>", desc := "(Ljava/lang/String;)V" } : Jvm.MethodName)) ∈ lw_all := lw_g (lw_at lw_m2 233 rfl) rfl
theorem q938 : (Jvm.Cond.static ({ cls := "java/util/Arrays", name := "copyOf", desc := "([Ljava/lang/Object;I)[Ljava/lang/Object;" } : Jvm.MethodName)) ∈ lw_all := lw_g (lw_at lw_m4 100 rfl) rfl
theorem q939 : (Jvm.Cond.code ({ cls := "java/util/Arrays", name := "copyOf", desc := "([Ljava/lang/Object;I)[Ljava/lang/Object;" } : Jvm.MethodName) prog_73_method_119_code (2 : Nat) (Option.some (Jvm.ClassFile.FieldType.array (Jvm.ClassFile.FieldType.object "java/lang/Object")))) ∈ lw_all := lw_g (lw_at lw_m4 101 rfl) rfl
theorem q940 : (Jvm.Cond.methodLink "java/util/Arrays" (86 : Nat) ({ cls := "java/lang/Object", name := "getClass", desc := "()Ljava/lang/Class;" } : Jvm.MethodName)) ∈ lw_all := lw_g (lw_at lw_m4 102 rfl) rfl
theorem q982 : (Jvm.Cond.methodLink "java/util/Arrays" (300 : Nat) ({ cls := "java/util/Arrays", name := "copyOf", desc := "([Ljava/lang/Object;ILjava/lang/Class;)[Ljava/lang/Object;" } : Jvm.MethodName)) ∈ lw_all := lw_g (lw_at lw_m4 144 rfl) rfl
theorem q983 : (Jvm.Cond.static ({ cls := "java/util/Arrays", name := "copyOf", desc := "([Ljava/lang/Object;ILjava/lang/Class;)[Ljava/lang/Object;" } : Jvm.MethodName)) ∈ lw_all := lw_g (lw_at lw_m4 145 rfl) rfl
theorem q984 : (Jvm.Cond.code ({ cls := "java/util/Arrays", name := "copyOf", desc := "([Ljava/lang/Object;ILjava/lang/Class;)[Ljava/lang/Object;" } : Jvm.MethodName) prog_73_method_120_code (4 : Nat) (Option.some (Jvm.ClassFile.FieldType.array (Jvm.ClassFile.FieldType.object "java/lang/Object")))) ∈ lw_all := lw_g (lw_at lw_m4 146 rfl) rfl
theorem q985 : (Jvm.Cond.classLink "java/util/Arrays" (110 : Nat) "[Ljava/lang/Object;") ∈ lw_all := lw_g (lw_at lw_m4 147 rfl) rfl
theorem q986 : (Jvm.Cond.classLink "java/util/Arrays" (2 : Nat) "java/lang/Object") ∈ lw_all := lw_g (lw_at lw_m4 148 rfl) rfl
theorem q137 : (Jvm.Cond.initialized "jdk/internal/util/Preconditions") ∈ lw_all := lw_g (lw_at lw_m1 19 rfl) rfl
theorem q467 : (Jvm.Cond.laysStatic "jdk/internal/util/Preconditions" "SIOOBE_FORMATTER" "Ljava/util/function/BiFunction;") ∈ lw_tbl := lw_at lw_m2 109 rfl
theorem q469 : (Jvm.Cond.static ({ cls := "jdk/internal/util/Preconditions", name := "checkFromToIndex", desc := "(IIILjava/util/function/BiFunction;)I" } : Jvm.MethodName)) ∈ lw_all := lw_g (lw_at lw_m2 111 rfl) rfl
theorem q470 : (Jvm.Cond.code ({ cls := "jdk/internal/util/Preconditions", name := "checkFromToIndex", desc := "(IIILjava/util/function/BiFunction;)I" } : Jvm.MethodName) prog_80_method_12_code (4 : Nat) (Option.some Jvm.ClassFile.FieldType.int)) ∈ lw_all := lw_g (lw_at lw_m2 112 rfl) rfl
theorem q515 : (Jvm.Cond.static ({ cls := "jdk/internal/util/Preconditions", name := "checkFromIndexSize", desc := "(IIILjava/util/function/BiFunction;)I" } : Jvm.MethodName)) ∈ lw_all := lw_g (lw_at lw_m2 157 rfl) rfl
theorem q516 : (Jvm.Cond.code ({ cls := "jdk/internal/util/Preconditions", name := "checkFromIndexSize", desc := "(IIILjava/util/function/BiFunction;)I" } : Jvm.MethodName) prog_80_method_13_code (4 : Nat) (Option.some Jvm.ClassFile.FieldType.int)) ∈ lw_all := lw_g (lw_at lw_m2 158 rfl) rfl
theorem q808 : (Jvm.Cond.static ({ cls := "jdk/internal/util/Preconditions", name := "checkIndex", desc := "(IILjava/util/function/BiFunction;)I" } : Jvm.MethodName)) ∈ lw_all := lw_g (lw_at lw_m3 210 rfl) rfl
theorem q809 : (Jvm.Cond.code ({ cls := "jdk/internal/util/Preconditions", name := "checkIndex", desc := "(IILjava/util/function/BiFunction;)I" } : Jvm.MethodName) prog_80_method_11_code (3 : Nat) (Option.some Jvm.ClassFile.FieldType.int)) ∈ lw_all := lw_g (lw_at lw_m3 211 rfl) rfl
theorem q138 : (Jvm.Cond.initialized "java/lang/StringLatin1") ∈ lw_all := lw_g (lw_at lw_m1 20 rfl) rfl
theorem q503 : (Jvm.Cond.static ({ cls := "java/lang/StringLatin1", name := "inflate", desc := "([BI[BII)V" } : Jvm.MethodName)) ∈ lw_all := lw_g (lw_at lw_m2 145 rfl) rfl
theorem q504 : (Jvm.Cond.code ({ cls := "java/lang/StringLatin1", name := "inflate", desc := "([BI[BII)V" } : Jvm.MethodName) prog_64_method_50_code (5 : Nat) (Option.none : Option Jvm.ClassFile.FieldType)) ∈ lw_all := lw_g (lw_at lw_m2 146 rfl) rfl
theorem q505 : (Jvm.Cond.methodLink "java/lang/StringLatin1" (240 : Nat) ({ cls := "java/lang/StringUTF16", name := "inflate", desc := "([BI[BII)V" } : Jvm.MethodName)) ∈ lw_all := lw_g (lw_at lw_m2 147 rfl) rfl
theorem q752 : (Jvm.Cond.static ({ cls := "java/lang/StringLatin1", name := "indexOf", desc := "([BIII)I" } : Jvm.MethodName)) ∈ lw_all := lw_g (lw_at lw_m3 154 rfl) rfl
theorem q753 : (Jvm.Cond.code ({ cls := "java/lang/StringLatin1", name := "indexOf", desc := "([BIII)I" } : Jvm.MethodName) prog_64_method_22_code (4 : Nat) (Option.some Jvm.ClassFile.FieldType.int)) ∈ lw_all := lw_g (lw_at lw_m3 155 rfl) rfl
theorem q754 : (Jvm.Cond.methodLink "java/lang/StringLatin1" (88 : Nat) ({ cls := "java/lang/StringLatin1", name := "canEncode", desc := "(I)Z" } : Jvm.MethodName)) ∈ lw_all := lw_g (lw_at lw_m3 156 rfl) rfl
theorem q755 : (Jvm.Cond.static ({ cls := "java/lang/StringLatin1", name := "canEncode", desc := "(I)Z" } : Jvm.MethodName)) ∈ lw_all := lw_g (lw_at lw_m3 157 rfl) rfl
theorem q756 : (Jvm.Cond.code ({ cls := "java/lang/StringLatin1", name := "canEncode", desc := "(I)Z" } : Jvm.MethodName) prog_64_method_4_code (1 : Nat) (Option.some Jvm.ClassFile.FieldType.boolean)) ∈ lw_all := lw_g (lw_at lw_m3 158 rfl) rfl
theorem q757 : (Jvm.Cond.methodLink "java/lang/StringLatin1" (92 : Nat) ({ cls := "java/lang/Math", name := "max", desc := "(II)I" } : Jvm.MethodName)) ∈ lw_all := lw_g (lw_at lw_m3 159 rfl) rfl
theorem q758 : (Jvm.Cond.methodLink "java/lang/StringLatin1" (38 : Nat) ({ cls := "java/lang/Math", name := "min", desc := "(II)I" } : Jvm.MethodName)) ∈ lw_all := lw_g (lw_at lw_m3 160 rfl) rfl
theorem q759 : (Jvm.Cond.methodLink "java/lang/StringLatin1" (95 : Nat) ({ cls := "java/lang/StringLatin1", name := "indexOfChar", desc := "([BIII)I" } : Jvm.MethodName)) ∈ lw_all := lw_g (lw_at lw_m3 161 rfl) rfl
theorem q760 : (Jvm.Cond.static ({ cls := "java/lang/StringLatin1", name := "indexOfChar", desc := "([BIII)I" } : Jvm.MethodName)) ∈ lw_all := lw_g (lw_at lw_m3 162 rfl) rfl
theorem q761 : (Jvm.Cond.code ({ cls := "java/lang/StringLatin1", name := "indexOfChar", desc := "([BIII)I" } : Jvm.MethodName) prog_64_method_23_code (6 : Nat) (Option.some Jvm.ClassFile.FieldType.int)) ∈ lw_all := lw_g (lw_at lw_m3 163 rfl) rfl
theorem q802 : (Jvm.Cond.static ({ cls := "java/lang/StringLatin1", name := "charAt", desc := "([BI)C" } : Jvm.MethodName)) ∈ lw_all := lw_g (lw_at lw_m3 204 rfl) rfl
theorem q803 : (Jvm.Cond.code ({ cls := "java/lang/StringLatin1", name := "charAt", desc := "([BI)C" } : Jvm.MethodName) prog_64_method_2_code (2 : Nat) (Option.some Jvm.ClassFile.FieldType.char)) ∈ lw_all := lw_g (lw_at lw_m3 205 rfl) rfl
theorem q804 : (Jvm.Cond.methodLink "java/lang/StringLatin1" (9 : Nat) ({ cls := "java/lang/String", name := "checkIndex", desc := "(II)V" } : Jvm.MethodName)) ∈ lw_all := lw_g (lw_at lw_m3 206 rfl) rfl
theorem q140 : (Jvm.Cond.initialized "java/lang/Integer") ∈ lw_all := lw_g (lw_at lw_m1 22 rfl) rfl
theorem q531 : (Jvm.Cond.static ({ cls := "java/lang/Integer", name := "stringSize", desc := "(I)I" } : Jvm.MethodName)) ∈ lw_all := lw_g (lw_at lw_m2 173 rfl) rfl
theorem q532 : (Jvm.Cond.code ({ cls := "java/lang/Integer", name := "stringSize", desc := "(I)I" } : Jvm.MethodName) prog_56_method_13_code (4 : Nat) (Option.some Jvm.ClassFile.FieldType.int)) ∈ lw_all := lw_g (lw_at lw_m2 174 rfl) rfl
theorem q534 : (Jvm.Cond.static ({ cls := "java/lang/Integer", name := "getChars", desc := "(II[B)I" } : Jvm.MethodName)) ∈ lw_all := lw_g (lw_at lw_m2 176 rfl) rfl
theorem q535 : (Jvm.Cond.code ({ cls := "java/lang/Integer", name := "getChars", desc := "(II[B)I" } : Jvm.MethodName) prog_56_method_12_code (7 : Nat) (Option.some Jvm.ClassFile.FieldType.int)) ∈ lw_all := lw_g (lw_at lw_m2 177 rfl) rfl
theorem q536 : (Jvm.Cond.fieldLink "java/lang/Integer" (83 : Nat) "java/lang/Integer" "DigitOnes" "[B") ∈ lw_all := lw_g (lw_at lw_m2 178 rfl) rfl
theorem q537 : (Jvm.Cond.laysStatic "java/lang/Integer" "DigitOnes" "[B") ∈ lw_tbl := lw_at lw_m2 179 rfl
theorem q538 : (Jvm.Cond.fieldLink "java/lang/Integer" (87 : Nat) "java/lang/Integer" "DigitTens" "[B") ∈ lw_all := lw_g (lw_at lw_m2 180 rfl) rfl
theorem q539 : (Jvm.Cond.laysStatic "java/lang/Integer" "DigitTens" "[B") ∈ lw_tbl := lw_at lw_m2 181 rfl
theorem q143 : (Jvm.Cond.initialized "java/lang/Character") ∈ lw_all := lw_g (lw_at lw_m1 25 rfl) rfl
theorem q778 : (Jvm.Cond.static ({ cls := "java/lang/Character", name := "isValidCodePoint", desc := "(I)Z" } : Jvm.MethodName)) ∈ lw_all := lw_g (lw_at lw_m3 180 rfl) rfl
theorem q779 : (Jvm.Cond.code ({ cls := "java/lang/Character", name := "isValidCodePoint", desc := "(I)Z" } : Jvm.MethodName) prog_48_method_11_code (2 : Nat) (Option.some Jvm.ClassFile.FieldType.boolean)) ∈ lw_all := lw_g (lw_at lw_m3 181 rfl) rfl
theorem q781 : (Jvm.Cond.static ({ cls := "java/lang/Character", name := "highSurrogate", desc := "(I)C" } : Jvm.MethodName)) ∈ lw_all := lw_g (lw_at lw_m3 183 rfl) rfl
theorem q782 : (Jvm.Cond.code ({ cls := "java/lang/Character", name := "highSurrogate", desc := "(I)C" } : Jvm.MethodName) prog_48_method_28_code (1 : Nat) (Option.some Jvm.ClassFile.FieldType.char)) ∈ lw_all := lw_g (lw_at lw_m3 184 rfl) rfl
theorem q783 : (Jvm.Cond.constant "java/lang/Character" (110 : Nat) (55232 : Int32)) ∈ lw_all := lw_g (lw_at lw_m3 185 rfl) rfl
theorem q785 : (Jvm.Cond.static ({ cls := "java/lang/Character", name := "lowSurrogate", desc := "(I)C" } : Jvm.MethodName)) ∈ lw_all := lw_g (lw_at lw_m3 187 rfl) rfl
theorem q786 : (Jvm.Cond.code ({ cls := "java/lang/Character", name := "lowSurrogate", desc := "(I)C" } : Jvm.MethodName) prog_48_method_29_code (1 : Nat) (Option.some Jvm.ClassFile.FieldType.char)) ∈ lw_all := lw_g (lw_at lw_m3 188 rfl) rfl
theorem q787 : (Jvm.Cond.constant "java/lang/Character" (76 : Nat) (56320 : Int32)) ∈ lw_all := lw_g (lw_at lw_m3 189 rfl) rfl
theorem q145 : (Jvm.Cond.initialized "java/util/Objects") ∈ lw_all := lw_g (lw_at lw_m1 27 rfl) rfl
theorem q890 : (Jvm.Cond.static ({ cls := "java/util/Objects", name := "checkIndex", desc := "(II)I" } : Jvm.MethodName)) ∈ lw_all := lw_g (lw_at lw_m4 52 rfl) rfl
theorem q891 : (Jvm.Cond.code ({ cls := "java/util/Objects", name := "checkIndex", desc := "(II)I" } : Jvm.MethodName) prog_76_method_17_code (2 : Nat) (Option.some Jvm.ClassFile.FieldType.int)) ∈ lw_all := lw_g (lw_at lw_m4 53 rfl) rfl
theorem q892 : (Jvm.Cond.methodLink "java/util/Objects" (105 : Nat) ({ cls := "jdk/internal/util/Preconditions", name := "checkIndex", desc := "(IILjava/util/function/BiFunction;)I" } : Jvm.MethodName)) ∈ lw_all := lw_g (lw_at lw_m4 54 rfl) rfl
theorem q146 : (Jvm.Cond.initialized "java/lang/Record") ∈ lw_all := lw_g (lw_at lw_m1 28 rfl) rfl
theorem q907 : (Jvm.Cond.instanceMethod ({ cls := "java/lang/Record", name := "<init>", desc := "()V" } : Jvm.MethodName)) ∈ lw_all := lw_g (lw_at lw_m4 69 rfl) rfl
theorem q908 : (Jvm.Cond.code ({ cls := "java/lang/Record", name := "<init>", desc := "()V" } : Jvm.MethodName) prog_60_method_1_code (1 : Nat) (Option.none : Option Jvm.ClassFile.FieldType)) ∈ lw_all := lw_g (lw_at lw_m4 70 rfl) rfl
theorem q909 : (Jvm.Cond.methodLink "java/lang/Record" (1 : Nat) ({ cls := "java/lang/Object", name := "<init>", desc := "()V" } : Jvm.MethodName)) ∈ lw_all := lw_g (lw_at lw_m4 71 rfl) rfl
theorem q176 : (Jvm.Cond.initialized "java/lang/IndexOutOfBoundsException") ∈ lw_all := lw_g (lw_at lw_m1 58 rfl) rfl
theorem q301 : (Jvm.Cond.selects "java/lang/IndexOutOfBoundsException" ({ cls := "java/lang/Throwable", name := "fillInStackTrace", desc := "()Ljava/lang/Throwable;" } : Jvm.MethodName) ({ cls := "java/lang/Throwable", name := "fillInStackTrace", desc := "()Ljava/lang/Throwable;" } : Jvm.MethodName)) ∈ lw_all := lw_g (lw_at lw_m1 183 rfl) rfl
theorem q977 : (Jvm.Cond.selects "java/lang/IndexOutOfBoundsException" ({ cls := "java/lang/Object", name := "getClass", desc := "()Ljava/lang/Class;" } : Jvm.MethodName) ({ cls := "java/lang/Object", name := "getClass", desc := "()Ljava/lang/Class;" } : Jvm.MethodName)) ∈ lw_all := lw_g (lw_at lw_m4 139 rfl) rfl
theorem q1878 : (Jvm.Cond.instanceMethod ({ cls := "java/lang/IndexOutOfBoundsException", name := "<init>", desc := "(Ljava/lang/String;)V" } : Jvm.MethodName)) ∈ lw_all := lw_g (lw_at lw_m8 80 rfl) rfl
theorem q1879 : (Jvm.Cond.code ({ cls := "java/lang/IndexOutOfBoundsException", name := "<init>", desc := "(Ljava/lang/String;)V" } : Jvm.MethodName) prog_55_method_2_code (2 : Nat) (Option.none : Option Jvm.ClassFile.FieldType)) ∈ lw_all := lw_g (lw_at lw_m8 81 rfl) rfl
theorem q1880 : (Jvm.Cond.methodLink "java/lang/IndexOutOfBoundsException" (7 : Nat) ({ cls := "java/lang/RuntimeException", name := "<init>", desc := "(Ljava/lang/String;)V" } : Jvm.MethodName)) ∈ lw_all := lw_g (lw_at lw_m8 82 rfl) rfl
theorem q1889 : (Jvm.Cond.declares ({ cls := "java/lang/IndexOutOfBoundsException", name := "<init>", desc := "()V" } : Jvm.MethodName)) ∈ lw_tbl := lw_at lw_m8 91 rfl
theorem q1890 : (Jvm.Cond.declares ({ cls := "java/lang/IndexOutOfBoundsException", name := "<init>", desc := "(Ljava/lang/String;)V" } : Jvm.MethodName)) ∈ lw_tbl := lw_at lw_m8 92 rfl
theorem q1900 : (Jvm.Cond.instantiable "java/lang/IndexOutOfBoundsException" (6 : Nat)) ∈ lw_all := lw_g (lw_at lw_m8 102 rfl) rfl
theorem q1901 : (Jvm.Cond.castable "java/lang/IndexOutOfBoundsException" "java/lang/IndexOutOfBoundsException") ∈ lw_tbl := lw_at lw_m8 103 rfl
theorem q1902 : (Jvm.Cond.selects "java/lang/IndexOutOfBoundsException" ({ cls := "java/lang/Throwable", name := "fillInStackTrace", desc := "(I)Ljava/lang/Throwable;" } : Jvm.MethodName) ({ cls := "java/lang/Throwable", name := "fillInStackTrace", desc := "(I)Ljava/lang/Throwable;" } : Jvm.MethodName)) ∈ lw_all := lw_g (lw_at lw_m8 104 rfl) rfl
theorem q1903 : (Jvm.Cond.lays "java/lang/IndexOutOfBoundsException" "java/lang/Throwable" "cause" "Ljava/lang/Throwable;") ∈ lw_all := lw_g (lw_at lw_m8 105 rfl) rfl
theorem q1904 : (Jvm.Cond.lays "java/lang/IndexOutOfBoundsException" "java/lang/Throwable" "stackTrace" "[Ljava/lang/StackTraceElement;") ∈ lw_all := lw_g (lw_at lw_m8 106 rfl) rfl
theorem q1905 : (Jvm.Cond.lays "java/lang/IndexOutOfBoundsException" "java/lang/Throwable" "suppressedExceptions" "Ljava/util/List;") ∈ lw_all := lw_g (lw_at lw_m8 107 rfl) rfl
theorem q1906 : (Jvm.Cond.lays "java/lang/IndexOutOfBoundsException" "java/lang/Throwable" "detailMessage" "Ljava/lang/String;") ∈ lw_all := lw_g (lw_at lw_m8 108 rfl) rfl
theorem q1907 : (Jvm.Cond.lays "java/lang/IndexOutOfBoundsException" "java/lang/Throwable" "backtrace" "Ljava/lang/Object;") ∈ lw_all := lw_g (lw_at lw_m8 109 rfl) rfl
theorem q1909 : (Jvm.Cond.instanceMethod ({ cls := "java/lang/IndexOutOfBoundsException", name := "<init>", desc := "()V" } : Jvm.MethodName)) ∈ lw_all := lw_g (lw_at lw_m8 111 rfl) rfl
theorem q1910 : (Jvm.Cond.code ({ cls := "java/lang/IndexOutOfBoundsException", name := "<init>", desc := "()V" } : Jvm.MethodName) prog_55_method_1_code (1 : Nat) (Option.none : Option Jvm.ClassFile.FieldType)) ∈ lw_all := lw_g (lw_at lw_m8 112 rfl) rfl
theorem q1911 : (Jvm.Cond.methodLink "java/lang/IndexOutOfBoundsException" (1 : Nat) ({ cls := "java/lang/RuntimeException", name := "<init>", desc := "()V" } : Jvm.MethodName)) ∈ lw_all := lw_g (lw_at lw_m8 113 rfl) rfl
theorem q1912 : (Jvm.Cond.lays "java/lang/IndexOutOfBoundsException" "java/lang/Throwable" "depth" "I") ∈ lw_all := lw_g (lw_at lw_m8 114 rfl) rfl
theorem q1913 : (Jvm.Cond.superclass "java/lang/IndexOutOfBoundsException" "java/lang/RuntimeException") ∈ lw_all := lw_g (lw_at lw_m8 115 rfl) rfl
theorem q3447 : (Jvm.Cond.castable "java/lang/IndexOutOfBoundsException" "java/lang/Object") ∈ lw_tbl := lw_at lw_m14 209 rfl
theorem q177 : (Jvm.Cond.initialized "java/lang/ArrayIndexOutOfBoundsException") ∈ lw_all := lw_g (lw_at lw_m1 59 rfl) rfl
theorem q299 : (Jvm.Cond.selects "java/lang/ArrayIndexOutOfBoundsException" ({ cls := "java/lang/Throwable", name := "fillInStackTrace", desc := "()Ljava/lang/Throwable;" } : Jvm.MethodName) ({ cls := "java/lang/Throwable", name := "fillInStackTrace", desc := "()Ljava/lang/Throwable;" } : Jvm.MethodName)) ∈ lw_all := lw_g (lw_at lw_m1 181 rfl) rfl
theorem q974 : (Jvm.Cond.selects "java/lang/ArrayIndexOutOfBoundsException" ({ cls := "java/lang/Object", name := "getClass", desc := "()Ljava/lang/Class;" } : Jvm.MethodName) ({ cls := "java/lang/Object", name := "getClass", desc := "()Ljava/lang/Class;" } : Jvm.MethodName)) ∈ lw_all := lw_g (lw_at lw_m4 136 rfl) rfl
theorem q1874 : (Jvm.Cond.instantiable "java/lang/ArrayIndexOutOfBoundsException" (6 : Nat)) ∈ lw_all := lw_g (lw_at lw_m8 76 rfl) rfl
theorem q1875 : (Jvm.Cond.instanceMethod ({ cls := "java/lang/ArrayIndexOutOfBoundsException", name := "<init>", desc := "(Ljava/lang/String;)V" } : Jvm.MethodName)) ∈ lw_all := lw_g (lw_at lw_m8 77 rfl) rfl
theorem q1876 : (Jvm.Cond.code ({ cls := "java/lang/ArrayIndexOutOfBoundsException", name := "<init>", desc := "(Ljava/lang/String;)V" } : Jvm.MethodName) prog_46_method_2_code (2 : Nat) (Option.none : Option Jvm.ClassFile.FieldType)) ∈ lw_all := lw_g (lw_at lw_m8 78 rfl) rfl
theorem q1877 : (Jvm.Cond.methodLink "java/lang/ArrayIndexOutOfBoundsException" (7 : Nat) ({ cls := "java/lang/IndexOutOfBoundsException", name := "<init>", desc := "(Ljava/lang/String;)V" } : Jvm.MethodName)) ∈ lw_all := lw_g (lw_at lw_m8 79 rfl) rfl
theorem q1881 : (Jvm.Cond.lays "java/lang/ArrayIndexOutOfBoundsException" "java/lang/Throwable" "backtrace" "Ljava/lang/Object;") ∈ lw_all := lw_g (lw_at lw_m8 83 rfl) rfl
theorem q1882 : (Jvm.Cond.lays "java/lang/ArrayIndexOutOfBoundsException" "java/lang/Throwable" "detailMessage" "Ljava/lang/String;") ∈ lw_all := lw_g (lw_at lw_m8 84 rfl) rfl
theorem q1883 : (Jvm.Cond.lays "java/lang/ArrayIndexOutOfBoundsException" "java/lang/Throwable" "cause" "Ljava/lang/Throwable;") ∈ lw_all := lw_g (lw_at lw_m8 85 rfl) rfl
theorem q1884 : (Jvm.Cond.lays "java/lang/ArrayIndexOutOfBoundsException" "java/lang/Throwable" "stackTrace" "[Ljava/lang/StackTraceElement;") ∈ lw_all := lw_g (lw_at lw_m8 86 rfl) rfl
theorem q1885 : (Jvm.Cond.lays "java/lang/ArrayIndexOutOfBoundsException" "java/lang/Throwable" "depth" "I") ∈ lw_all := lw_g (lw_at lw_m8 87 rfl) rfl
theorem q1886 : (Jvm.Cond.lays "java/lang/ArrayIndexOutOfBoundsException" "java/lang/Throwable" "suppressedExceptions" "Ljava/util/List;") ∈ lw_all := lw_g (lw_at lw_m8 88 rfl) rfl
theorem q1887 : (Jvm.Cond.superclass "java/lang/ArrayIndexOutOfBoundsException" "java/lang/IndexOutOfBoundsException") ∈ lw_all := lw_g (lw_at lw_m8 89 rfl) rfl
theorem q1888 : (Jvm.Cond.castable "java/lang/ArrayIndexOutOfBoundsException" "java/lang/ArrayIndexOutOfBoundsException") ∈ lw_tbl := lw_at lw_m8 90 rfl
theorem q1891 : (Jvm.Cond.selects "java/lang/ArrayIndexOutOfBoundsException" ({ cls := "java/lang/Throwable", name := "fillInStackTrace", desc := "(I)Ljava/lang/Throwable;" } : Jvm.MethodName) ({ cls := "java/lang/Throwable", name := "fillInStackTrace", desc := "(I)Ljava/lang/Throwable;" } : Jvm.MethodName)) ∈ lw_all := lw_g (lw_at lw_m8 93 rfl) rfl
theorem q3392 : (Jvm.Cond.castable "java/lang/ArrayIndexOutOfBoundsException" "java/lang/IndexOutOfBoundsException") ∈ lw_tbl := lw_at lw_m14 154 rfl
theorem q3446 : (Jvm.Cond.castable "java/lang/ArrayIndexOutOfBoundsException" "java/lang/Object") ∈ lw_tbl := lw_at lw_m14 208 rfl
theorem q178 : (Jvm.Cond.initialized "java/lang/IllegalStateException") ∈ lw_all := lw_g (lw_at lw_m1 60 rfl) rfl
theorem q300 : (Jvm.Cond.selects "java/lang/IllegalStateException" ({ cls := "java/lang/Throwable", name := "fillInStackTrace", desc := "()Ljava/lang/Throwable;" } : Jvm.MethodName) ({ cls := "java/lang/Throwable", name := "fillInStackTrace", desc := "()Ljava/lang/Throwable;" } : Jvm.MethodName)) ∈ lw_all := lw_g (lw_at lw_m1 182 rfl) rfl
theorem q976 : (Jvm.Cond.selects "java/lang/IllegalStateException" ({ cls := "java/lang/Object", name := "getClass", desc := "()Ljava/lang/Class;" } : Jvm.MethodName) ({ cls := "java/lang/Object", name := "getClass", desc := "()Ljava/lang/Class;" } : Jvm.MethodName)) ∈ lw_all := lw_g (lw_at lw_m4 138 rfl) rfl
theorem q1934 : (Jvm.Cond.instantiable "java/lang/IllegalStateException" (6 : Nat)) ∈ lw_all := lw_g (lw_at lw_m8 136 rfl) rfl
theorem q1935 : (Jvm.Cond.castable "java/lang/IllegalStateException" "java/lang/IllegalStateException") ∈ lw_tbl := lw_at lw_m8 137 rfl
theorem q1936 : (Jvm.Cond.selects "java/lang/IllegalStateException" ({ cls := "java/lang/Throwable", name := "fillInStackTrace", desc := "(I)Ljava/lang/Throwable;" } : Jvm.MethodName) ({ cls := "java/lang/Throwable", name := "fillInStackTrace", desc := "(I)Ljava/lang/Throwable;" } : Jvm.MethodName)) ∈ lw_all := lw_g (lw_at lw_m8 138 rfl) rfl
theorem q1937 : (Jvm.Cond.lays "java/lang/IllegalStateException" "java/lang/Throwable" "cause" "Ljava/lang/Throwable;") ∈ lw_all := lw_g (lw_at lw_m8 139 rfl) rfl
theorem q1938 : (Jvm.Cond.lays "java/lang/IllegalStateException" "java/lang/Throwable" "stackTrace" "[Ljava/lang/StackTraceElement;") ∈ lw_all := lw_g (lw_at lw_m8 140 rfl) rfl
theorem q1939 : (Jvm.Cond.lays "java/lang/IllegalStateException" "java/lang/Throwable" "suppressedExceptions" "Ljava/util/List;") ∈ lw_all := lw_g (lw_at lw_m8 141 rfl) rfl
theorem q1940 : (Jvm.Cond.lays "java/lang/IllegalStateException" "java/lang/Throwable" "detailMessage" "Ljava/lang/String;") ∈ lw_all := lw_g (lw_at lw_m8 142 rfl) rfl
theorem q1941 : (Jvm.Cond.lays "java/lang/IllegalStateException" "java/lang/Throwable" "backtrace" "Ljava/lang/Object;") ∈ lw_all := lw_g (lw_at lw_m8 143 rfl) rfl
theorem q1943 : (Jvm.Cond.instanceMethod ({ cls := "java/lang/IllegalStateException", name := "<init>", desc := "()V" } : Jvm.MethodName)) ∈ lw_all := lw_g (lw_at lw_m8 145 rfl) rfl
theorem q1944 : (Jvm.Cond.code ({ cls := "java/lang/IllegalStateException", name := "<init>", desc := "()V" } : Jvm.MethodName) prog_54_method_1_code (1 : Nat) (Option.none : Option Jvm.ClassFile.FieldType)) ∈ lw_all := lw_g (lw_at lw_m8 146 rfl) rfl
theorem q1945 : (Jvm.Cond.methodLink "java/lang/IllegalStateException" (1 : Nat) ({ cls := "java/lang/RuntimeException", name := "<init>", desc := "()V" } : Jvm.MethodName)) ∈ lw_all := lw_g (lw_at lw_m8 147 rfl) rfl
theorem q1946 : (Jvm.Cond.lays "java/lang/IllegalStateException" "java/lang/Throwable" "depth" "I") ∈ lw_all := lw_g (lw_at lw_m8 148 rfl) rfl
theorem q1947 : (Jvm.Cond.superclass "java/lang/IllegalStateException" "java/lang/RuntimeException") ∈ lw_all := lw_g (lw_at lw_m8 149 rfl) rfl
theorem q3448 : (Jvm.Cond.castable "java/lang/IllegalStateException" "java/lang/Object") ∈ lw_tbl := lw_at lw_m14 210 rfl
theorem q185 : (Jvm.Cond.instanceMethod ({ cls := "java/lang/Object", name := "<init>", desc := "()V" } : Jvm.MethodName)) ∈ lw_all := lw_g (lw_at lw_m1 67 rfl) rfl
theorem q186 : (Jvm.Cond.code ({ cls := "java/lang/Object", name := "<init>", desc := "()V" } : Jvm.MethodName) object_method_1_code (1 : Nat) (Option.none : Option Jvm.ClassFile.FieldType)) ∈ lw_all := lw_g (lw_at lw_m1 68 rfl) rfl
theorem q438 : (Jvm.Cond.native ({ cls := "java/lang/Object", name := "clone", desc := "()Ljava/lang/Object;" } : Jvm.MethodName)) ∈ lw_all := lw_g (lw_at lw_m2 80 rfl) rfl
theorem q439 : (Jvm.Cond.instanceMethod ({ cls := "java/lang/Object", name := "clone", desc := "()Ljava/lang/Object;" } : Jvm.MethodName)) ∈ lw_all := lw_g (lw_at lw_m2 81 rfl) rfl
theorem q941 : (Jvm.Cond.instanceMethod ({ cls := "java/lang/Object", name := "getClass", desc := "()Ljava/lang/Class;" } : Jvm.MethodName)) ∈ lw_all := lw_g (lw_at lw_m4 103 rfl) rfl
theorem q942 : (Jvm.Cond.sameMethod "java/lang/Object" "java/lang/Object" "getClass" "()Ljava/lang/Class;") ∈ lw_all := lw_g (lw_at lw_m4 104 rfl) rfl
theorem q981 : (Jvm.Cond.native ({ cls := "java/lang/Object", name := "getClass", desc := "()Ljava/lang/Class;" } : Jvm.MethodName)) ∈ lw_all := lw_g (lw_at lw_m4 143 rfl) rfl
theorem q3384 : (Jvm.Cond.initialized "java/lang/Object") ∈ lw_all := lw_g (lw_at lw_m14 146 rfl) rfl
theorem q3452 : (Jvm.Cond.declares ({ cls := "java/lang/Object", name := "getClass", desc := "()Ljava/lang/Class;" } : Jvm.MethodName)) ∈ lw_tbl := lw_at lw_m14 214 rfl
theorem q118 : (Jvm.Cond.initialized "FairHouseLaw") ∈ lw_all := lw_g (lw_at lw_m1 0 rfl) rfl
theorem q179 : (Jvm.Cond.classLink "FairHouseLaw" (8 : Nat) "FairHouse") ∈ lw_all := lw_g (lw_at lw_m1 61 rfl) rfl
theorem q181 : (Jvm.Cond.methodLink "FairHouseLaw" (64 : Nat) ({ cls := "FairHouse", name := "<init>", desc := "()V" } : Jvm.MethodName)) ∈ lw_all := lw_g (lw_at lw_m1 63 rfl) rfl
theorem q248 : (Jvm.Cond.methodLink "FairHouseLaw" (68 : Nat) ({ cls := "FairHouse", name := "feed", desc := "(IIIII)I" } : Jvm.MethodName)) ∈ lw_all := lw_g (lw_at lw_m1 130 rfl) rfl
theorem q256 : (Jvm.Cond.methodLink "FairHouseLaw" (73 : Nat) ({ cls := "FairHouseLaw", name := "read", desc := "(LFairHouse;I[J)I" } : Jvm.MethodName)) ∈ lw_all := lw_g (lw_at lw_m1 138 rfl) rfl
theorem q257 : (Jvm.Cond.static ({ cls := "FairHouseLaw", name := "read", desc := "(LFairHouse;I[J)I" } : Jvm.MethodName)) ∈ lw_all := lw_g (lw_at lw_m1 139 rfl) rfl
theorem q258 : (Jvm.Cond.codeWith ({ cls := "FairHouseLaw", name := "read", desc := "(LFairHouse;I[J)I" } : Jvm.MethodName) method_3_code (4 : Nat) (Option.some Jvm.ClassFile.FieldType.int) [((0 : Nat), (9 : Nat), (12 : Nat), (13 : Nat))]) ∈ lw_all := lw_g (lw_at lw_m1 140 rfl) rfl
theorem q259 : (Jvm.Cond.classLink "FairHouseLaw" (13 : Nat) "java/lang/IllegalArgumentException") ∈ lw_all := lw_g (lw_at lw_m1 141 rfl) rfl
theorem q260 : (Jvm.Cond.methodLink "FairHouseLaw" (7 : Nat) ({ cls := "FairHouse", name := "read", desc := "(I)I" } : Jvm.MethodName)) ∈ lw_all := lw_g (lw_at lw_m1 142 rfl) rfl
theorem q1870 : (Jvm.Cond.methodLink "FairHouseLaw" (83 : Nat) ({ cls := "FairHouseLaw", name := "fault", desc := "(LFairHouse;I[J)I" } : Jvm.MethodName)) ∈ lw_all := lw_g (lw_at lw_m8 72 rfl) rfl
theorem q1871 : (Jvm.Cond.static ({ cls := "FairHouseLaw", name := "fault", desc := "(LFairHouse;I[J)I" } : Jvm.MethodName)) ∈ lw_all := lw_g (lw_at lw_m8 73 rfl) rfl
theorem q1872 : (Jvm.Cond.codeWith ({ cls := "FairHouseLaw", name := "fault", desc := "(LFairHouse;I[J)I" } : Jvm.MethodName) method_4_code (4 : Nat) (Option.some Jvm.ClassFile.FieldType.int) [((0 : Nat), (9 : Nat), (12 : Nat), (18 : Nat))]) ∈ lw_all := lw_g (lw_at lw_m8 74 rfl) rfl
theorem q1873 : (Jvm.Cond.classLink "FairHouseLaw" (18 : Nat) "java/lang/IndexOutOfBoundsException") ∈ lw_all := lw_g (lw_at lw_m8 75 rfl) rfl
theorem q1892 : (Jvm.Cond.methodLink "FairHouseLaw" (15 : Nat) ({ cls := "FairHouse", name := "fault", desc := "(I)I" } : Jvm.MethodName)) ∈ lw_all := lw_g (lw_at lw_m8 94 rfl) rfl
theorem q1914 : (Jvm.Cond.methodLink "FairHouseLaw" (86 : Nat) ({ cls := "FairHouseLaw", name := "count", desc := "(LFairHouse;I[J)I" } : Jvm.MethodName)) ∈ lw_all := lw_g (lw_at lw_m8 116 rfl) rfl
theorem q1915 : (Jvm.Cond.static ({ cls := "FairHouseLaw", name := "count", desc := "(LFairHouse;I[J)I" } : Jvm.MethodName)) ∈ lw_all := lw_g (lw_at lw_m8 117 rfl) rfl
theorem q1916 : (Jvm.Cond.codeWith ({ cls := "FairHouseLaw", name := "count", desc := "(LFairHouse;I[J)I" } : Jvm.MethodName) method_5_code (4 : Nat) (Option.some Jvm.ClassFile.FieldType.int) [((0 : Nat), (9 : Nat), (12 : Nat), (18 : Nat))]) ∈ lw_all := lw_g (lw_at lw_m8 118 rfl) rfl
theorem q1917 : (Jvm.Cond.methodLink "FairHouseLaw" (20 : Nat) ({ cls := "FairHouse", name := "count", desc := "(I)I" } : Jvm.MethodName)) ∈ lw_all := lw_g (lw_at lw_m8 119 rfl) rfl
theorem q1921 : (Jvm.Cond.methodLink "FairHouseLaw" (89 : Nat) ({ cls := "FairHouseLaw", name := "open", desc := "(LFairHouse;)I" } : Jvm.MethodName)) ∈ lw_all := lw_g (lw_at lw_m8 123 rfl) rfl
theorem q1922 : (Jvm.Cond.static ({ cls := "FairHouseLaw", name := "open", desc := "(LFairHouse;)I" } : Jvm.MethodName)) ∈ lw_all := lw_g (lw_at lw_m8 124 rfl) rfl
theorem q1923 : (Jvm.Cond.codeWith ({ cls := "FairHouseLaw", name := "open", desc := "(LFairHouse;)I" } : Jvm.MethodName) method_6_code (2 : Nat) (Option.some Jvm.ClassFile.FieldType.int) [((0 : Nat), (4 : Nat), (7 : Nat), (26 : Nat))]) ∈ lw_all := lw_g (lw_at lw_m8 125 rfl) rfl
theorem q1924 : (Jvm.Cond.classLink "FairHouseLaw" (26 : Nat) "java/lang/IllegalStateException") ∈ lw_all := lw_g (lw_at lw_m8 126 rfl) rfl
theorem q1925 : (Jvm.Cond.methodLink "FairHouseLaw" (23 : Nat) ({ cls := "FairHouse", name := "open", desc := "()V" } : Jvm.MethodName)) ∈ lw_all := lw_g (lw_at lw_m8 127 rfl) rfl
theorem q1948 : (Jvm.Cond.methodLink "FairHouseLaw" (93 : Nat) ({ cls := "FairHouseLaw", name := "come", desc := "(LFairHouse;II[J)I" } : Jvm.MethodName)) ∈ lw_all := lw_g (lw_at lw_m8 150 rfl) rfl
theorem q1949 : (Jvm.Cond.static ({ cls := "FairHouseLaw", name := "come", desc := "(LFairHouse;II[J)I" } : Jvm.MethodName)) ∈ lw_all := lw_g (lw_at lw_m8 151 rfl) rfl
theorem q1950 : (Jvm.Cond.codeWith ({ cls := "FairHouseLaw", name := "come", desc := "(LFairHouse;II[J)I" } : Jvm.MethodName) method_7_code (5 : Nat) (Option.some Jvm.ClassFile.FieldType.int) [((0 : Nat), (10 : Nat), (13 : Nat), (26 : Nat)), ((0 : Nat), (10 : Nat), (17 : Nat), (18 : Nat)), ((0 : Nat), (10 : Nat), (21 : Nat), (13 : Nat))]) ∈ lw_all := lw_g (lw_at lw_m8 152 rfl) rfl
theorem q1951 : (Jvm.Cond.methodLink "FairHouseLaw" (28 : Nat) ({ cls := "FairHouse", name := "come", desc := "(II)I" } : Jvm.MethodName)) ∈ lw_all := lw_g (lw_at lw_m8 153 rfl) rfl
theorem q1966 : (Jvm.Cond.methodLink "FairHouseLaw" (97 : Nat) ({ cls := "FairHouseLaw", name := "wind", desc := "(LFairHouse;I[J)I" } : Jvm.MethodName)) ∈ lw_all := lw_g (lw_at lw_m8 168 rfl) rfl
theorem q1967 : (Jvm.Cond.static ({ cls := "FairHouseLaw", name := "wind", desc := "(LFairHouse;I[J)I" } : Jvm.MethodName)) ∈ lw_all := lw_g (lw_at lw_m8 169 rfl) rfl
theorem q1968 : (Jvm.Cond.codeWith ({ cls := "FairHouseLaw", name := "wind", desc := "(LFairHouse;I[J)I" } : Jvm.MethodName) method_8_code (4 : Nat) (Option.some Jvm.ClassFile.FieldType.int) [((0 : Nat), (9 : Nat), (12 : Nat), (26 : Nat)), ((0 : Nat), (9 : Nat), (15 : Nat), (13 : Nat))]) ∈ lw_all := lw_g (lw_at lw_m8 170 rfl) rfl
theorem q1969 : (Jvm.Cond.methodLink "FairHouseLaw" (32 : Nat) ({ cls := "FairHouse", name := "wind", desc := "(I)I" } : Jvm.MethodName)) ∈ lw_all := lw_g (lw_at lw_m8 171 rfl) rfl
theorem q1973 : (Jvm.Cond.methodLink "FairHouseLaw" (100 : Nat) ({ cls := "FairHouseLaw", name := "tick", desc := "(LFairHouse;I[J)I" } : Jvm.MethodName)) ∈ lw_all := lw_g (lw_at lw_m8 175 rfl) rfl
theorem q1974 : (Jvm.Cond.static ({ cls := "FairHouseLaw", name := "tick", desc := "(LFairHouse;I[J)I" } : Jvm.MethodName)) ∈ lw_all := lw_g (lw_at lw_m8 176 rfl) rfl
theorem q1975 : (Jvm.Cond.codeWith ({ cls := "FairHouseLaw", name := "tick", desc := "(LFairHouse;I[J)I" } : Jvm.MethodName) method_9_code (4 : Nat) (Option.some Jvm.ClassFile.FieldType.int) [((0 : Nat), (9 : Nat), (12 : Nat), (26 : Nat)), ((0 : Nat), (9 : Nat), (15 : Nat), (13 : Nat))]) ∈ lw_all := lw_g (lw_at lw_m8 177 rfl) rfl
theorem q1976 : (Jvm.Cond.methodLink "FairHouseLaw" (35 : Nat) ({ cls := "FairHouse", name := "tick", desc := "(I)I" } : Jvm.MethodName)) ∈ lw_all := lw_g (lw_at lw_m8 178 rfl) rfl
theorem q2564 : (Jvm.Cond.methodLink "FairHouseLaw" (103 : Nat) ({ cls := "FairHouseLaw", name := "measure", desc := "(LFairHouse;II[J)I" } : Jvm.MethodName)) ∈ lw_all := lw_g (lw_at lw_m11 46 rfl) rfl
theorem q2565 : (Jvm.Cond.static ({ cls := "FairHouseLaw", name := "measure", desc := "(LFairHouse;II[J)I" } : Jvm.MethodName)) ∈ lw_all := lw_g (lw_at lw_m11 47 rfl) rfl
theorem q2566 : (Jvm.Cond.codeWith ({ cls := "FairHouseLaw", name := "measure", desc := "(LFairHouse;II[J)I" } : Jvm.MethodName) method_10_code (5 : Nat) (Option.some Jvm.ClassFile.FieldType.int) [((0 : Nat), (10 : Nat), (13 : Nat), (26 : Nat)), ((0 : Nat), (10 : Nat), (17 : Nat), (18 : Nat))]) ∈ lw_all := lw_g (lw_at lw_m11 48 rfl) rfl
theorem q2567 : (Jvm.Cond.methodLink "FairHouseLaw" (38 : Nat) ({ cls := "FairHouse", name := "measure", desc := "(II)I" } : Jvm.MethodName)) ∈ lw_all := lw_g (lw_at lw_m11 49 rfl) rfl
theorem q2572 : (Jvm.Cond.methodLink "FairHouseLaw" (106 : Nat) ({ cls := "FairHouseLaw", name := "says", desc := "(LFairHouse;II[J)I" } : Jvm.MethodName)) ∈ lw_all := lw_g (lw_at lw_m11 54 rfl) rfl
theorem q2573 : (Jvm.Cond.static ({ cls := "FairHouseLaw", name := "says", desc := "(LFairHouse;II[J)I" } : Jvm.MethodName)) ∈ lw_all := lw_g (lw_at lw_m11 55 rfl) rfl
theorem q2574 : (Jvm.Cond.codeWith ({ cls := "FairHouseLaw", name := "says", desc := "(LFairHouse;II[J)I" } : Jvm.MethodName) method_11_code (5 : Nat) (Option.some Jvm.ClassFile.FieldType.int) [((0 : Nat), (10 : Nat), (13 : Nat), (26 : Nat)), ((0 : Nat), (10 : Nat), (17 : Nat), (18 : Nat))]) ∈ lw_all := lw_g (lw_at lw_m11 56 rfl) rfl
theorem q2575 : (Jvm.Cond.methodLink "FairHouseLaw" (41 : Nat) ({ cls := "FairHouse", name := "says", desc := "(II)I" } : Jvm.MethodName)) ∈ lw_all := lw_g (lw_at lw_m11 57 rfl) rfl
theorem q2661 : (Jvm.Cond.methodLink "FairHouseLaw" (109 : Nat) ({ cls := "FairHouseLaw", name := "script", desc := "(LFairHouse;II[J)I" } : Jvm.MethodName)) ∈ lw_all := lw_g (lw_at lw_m11 143 rfl) rfl
theorem q2662 : (Jvm.Cond.static ({ cls := "FairHouseLaw", name := "script", desc := "(LFairHouse;II[J)I" } : Jvm.MethodName)) ∈ lw_all := lw_g (lw_at lw_m11 144 rfl) rfl
theorem q2663 : (Jvm.Cond.codeWith ({ cls := "FairHouseLaw", name := "script", desc := "(LFairHouse;II[J)I" } : Jvm.MethodName) method_12_code (5 : Nat) (Option.some Jvm.ClassFile.FieldType.int) [((0 : Nat), (10 : Nat), (13 : Nat), (26 : Nat)), ((0 : Nat), (10 : Nat), (17 : Nat), (18 : Nat))]) ∈ lw_all := lw_g (lw_at lw_m11 145 rfl) rfl
theorem q2664 : (Jvm.Cond.methodLink "FairHouseLaw" (44 : Nat) ({ cls := "FairHouse", name := "script", desc := "(II)I" } : Jvm.MethodName)) ∈ lw_all := lw_g (lw_at lw_m11 146 rfl) rfl
theorem q2672 : (Jvm.Cond.methodLink "FairHouseLaw" (112 : Nat) ({ cls := "FairHouseLaw", name := "free", desc := "(LFairHouse;I[J)I" } : Jvm.MethodName)) ∈ lw_all := lw_g (lw_at lw_m11 154 rfl) rfl
theorem q2673 : (Jvm.Cond.static ({ cls := "FairHouseLaw", name := "free", desc := "(LFairHouse;I[J)I" } : Jvm.MethodName)) ∈ lw_all := lw_g (lw_at lw_m11 155 rfl) rfl
theorem q2674 : (Jvm.Cond.codeWith ({ cls := "FairHouseLaw", name := "free", desc := "(LFairHouse;I[J)I" } : Jvm.MethodName) method_13_code (4 : Nat) (Option.some Jvm.ClassFile.FieldType.int) [((0 : Nat), (9 : Nat), (12 : Nat), (26 : Nat)), ((0 : Nat), (9 : Nat), (15 : Nat), (18 : Nat))]) ∈ lw_all := lw_g (lw_at lw_m11 156 rfl) rfl
theorem q2675 : (Jvm.Cond.methodLink "FairHouseLaw" (47 : Nat) ({ cls := "FairHouse", name := "free", desc := "(I)I" } : Jvm.MethodName)) ∈ lw_all := lw_g (lw_at lw_m11 157 rfl) rfl
theorem q2679 : (Jvm.Cond.methodLink "FairHouseLaw" (115 : Nat) ({ cls := "FairHouseLaw", name := "isUp", desc := "(LFairHouse;I[J)I" } : Jvm.MethodName)) ∈ lw_all := lw_g (lw_at lw_m11 161 rfl) rfl
theorem q2680 : (Jvm.Cond.static ({ cls := "FairHouseLaw", name := "isUp", desc := "(LFairHouse;I[J)I" } : Jvm.MethodName)) ∈ lw_all := lw_g (lw_at lw_m11 162 rfl) rfl
theorem q2681 : (Jvm.Cond.codeWith ({ cls := "FairHouseLaw", name := "isUp", desc := "(LFairHouse;I[J)I" } : Jvm.MethodName) method_14_code (4 : Nat) (Option.some Jvm.ClassFile.FieldType.int) [((0 : Nat), (16 : Nat), (19 : Nat), (26 : Nat)), ((0 : Nat), (16 : Nat), (22 : Nat), (18 : Nat))]) ∈ lw_all := lw_g (lw_at lw_m11 163 rfl) rfl
theorem q2682 : (Jvm.Cond.methodLink "FairHouseLaw" (50 : Nat) ({ cls := "FairHouse", name := "isUp", desc := "(I)Z" } : Jvm.MethodName)) ∈ lw_all := lw_g (lw_at lw_m11 164 rfl) rfl
theorem q2686 : (Jvm.Cond.methodLink "FairHouseLaw" (118 : Nat) ({ cls := "FairHouseLaw", name := "set", desc := "(LFairHouse;IZ[J)I" } : Jvm.MethodName)) ∈ lw_all := lw_g (lw_at lw_m11 168 rfl) rfl
theorem q2687 : (Jvm.Cond.static ({ cls := "FairHouseLaw", name := "set", desc := "(LFairHouse;IZ[J)I" } : Jvm.MethodName)) ∈ lw_all := lw_g (lw_at lw_m11 169 rfl) rfl
theorem q2688 : (Jvm.Cond.codeWith ({ cls := "FairHouseLaw", name := "set", desc := "(LFairHouse;IZ[J)I" } : Jvm.MethodName) method_15_code (5 : Nat) (Option.some Jvm.ClassFile.FieldType.int) [((0 : Nat), (17 : Nat), (20 : Nat), (26 : Nat)), ((0 : Nat), (17 : Nat), (24 : Nat), (18 : Nat))]) ∈ lw_all := lw_g (lw_at lw_m11 170 rfl) rfl
theorem q2689 : (Jvm.Cond.methodLink "FairHouseLaw" (54 : Nat) ({ cls := "FairHouse", name := "set", desc := "(IZ)Z" } : Jvm.MethodName)) ∈ lw_all := lw_g (lw_at lw_m11 171 rfl) rfl
theorem q2694 : (Jvm.Cond.methodLink "FairHouseLaw" (122 : Nat) ({ cls := "FairHouseLaw", name := "total", desc := "(LFairHouse;I[J)I" } : Jvm.MethodName)) ∈ lw_all := lw_g (lw_at lw_m11 176 rfl) rfl
theorem q2695 : (Jvm.Cond.static ({ cls := "FairHouseLaw", name := "total", desc := "(LFairHouse;I[J)I" } : Jvm.MethodName)) ∈ lw_all := lw_g (lw_at lw_m11 177 rfl) rfl
theorem q2696 : (Jvm.Cond.codeWith ({ cls := "FairHouseLaw", name := "total", desc := "(LFairHouse;I[J)I" } : Jvm.MethodName) method_16_code (4 : Nat) (Option.some Jvm.ClassFile.FieldType.int) [((0 : Nat), (9 : Nat), (12 : Nat), (26 : Nat)), ((0 : Nat), (9 : Nat), (15 : Nat), (18 : Nat))]) ∈ lw_all := lw_g (lw_at lw_m11 178 rfl) rfl
theorem q2697 : (Jvm.Cond.methodLink "FairHouseLaw" (58 : Nat) ({ cls := "FairHouse", name := "total", desc := "(I)I" } : Jvm.MethodName)) ∈ lw_all := lw_g (lw_at lw_m11 179 rfl) rfl
theorem q2701 : (Jvm.Cond.methodLink "FairHouseLaw" (125 : Nat) ({ cls := "FairHouseLaw", name := "log", desc := "(LFairHouse;II[J)I" } : Jvm.MethodName)) ∈ lw_all := lw_g (lw_at lw_m11 183 rfl) rfl
theorem q2702 : (Jvm.Cond.static ({ cls := "FairHouseLaw", name := "log", desc := "(LFairHouse;II[J)I" } : Jvm.MethodName)) ∈ lw_all := lw_g (lw_at lw_m11 184 rfl) rfl
theorem q2703 : (Jvm.Cond.codeWith ({ cls := "FairHouseLaw", name := "log", desc := "(LFairHouse;II[J)I" } : Jvm.MethodName) method_17_code (5 : Nat) (Option.some Jvm.ClassFile.FieldType.int) [((0 : Nat), (10 : Nat), (13 : Nat), (26 : Nat)), ((0 : Nat), (10 : Nat), (17 : Nat), (18 : Nat))]) ∈ lw_all := lw_g (lw_at lw_m11 185 rfl) rfl
theorem q2704 : (Jvm.Cond.methodLink "FairHouseLaw" (61 : Nat) ({ cls := "FairHouse", name := "log", desc := "(II)I" } : Jvm.MethodName)) ∈ lw_all := lw_g (lw_at lw_m11 186 rfl) rfl
theorem q2708 : (Jvm.Cond.classLink "FairHouseLaw" (65 : Nat) "FairHouseModel") ∈ lw_all := lw_g (lw_at lw_m11 190 rfl) rfl
theorem q2710 : (Jvm.Cond.methodLink "FairHouseLaw" (67 : Nat) ({ cls := "FairHouseModel", name := "<init>", desc := "()V" } : Jvm.MethodName)) ∈ lw_all := lw_g (lw_at lw_m11 192 rfl) rfl
theorem q3041 : (Jvm.Cond.methodLink "FairHouseLaw" (79 : Nat) ({ cls := "FairHouseModel", name := "thrown", desc := "()I" } : Jvm.MethodName)) ∈ lw_all := lw_g (lw_at lw_m13 43 rfl) rfl
theorem q3045 : (Jvm.Cond.methodLink "FairHouseLaw" (72 : Nat) ({ cls := "FairHouseModel", name := "feed", desc := "(IIIII)I" } : Jvm.MethodName)) ∈ lw_all := lw_g (lw_at lw_m13 47 rfl) rfl
theorem q3049 : (Jvm.Cond.methodLink "FairHouseLaw" (78 : Nat) ({ cls := "FairHouseModel", name := "read", desc := "(I)I" } : Jvm.MethodName)) ∈ lw_all := lw_g (lw_at lw_m13 51 rfl) rfl
theorem q3192 : (Jvm.Cond.methodLink "FairHouseLaw" (85 : Nat) ({ cls := "FairHouseModel", name := "fault", desc := "(I)I" } : Jvm.MethodName)) ∈ lw_all := lw_g (lw_at lw_m13 194 rfl) rfl
theorem q3196 : (Jvm.Cond.methodLink "FairHouseLaw" (88 : Nat) ({ cls := "FairHouseModel", name := "count", desc := "(I)I" } : Jvm.MethodName)) ∈ lw_all := lw_g (lw_at lw_m13 198 rfl) rfl
theorem q3200 : (Jvm.Cond.methodLink "FairHouseLaw" (92 : Nat) ({ cls := "FairHouseModel", name := "open", desc := "()V" } : Jvm.MethodName)) ∈ lw_all := lw_g (lw_at lw_m13 202 rfl) rfl
theorem q3204 : (Jvm.Cond.methodLink "FairHouseLaw" (96 : Nat) ({ cls := "FairHouseModel", name := "come", desc := "(II)I" } : Jvm.MethodName)) ∈ lw_all := lw_g (lw_at lw_m13 206 rfl) rfl
theorem q3224 : (Jvm.Cond.methodLink "FairHouseLaw" (99 : Nat) ({ cls := "FairHouseModel", name := "wind", desc := "(I)I" } : Jvm.MethodName)) ∈ lw_all := lw_g (lw_at lw_m13 226 rfl) rfl
theorem q3228 : (Jvm.Cond.methodLink "FairHouseLaw" (102 : Nat) ({ cls := "FairHouseModel", name := "tick", desc := "(I)I" } : Jvm.MethodName)) ∈ lw_all := lw_g (lw_at lw_m13 230 rfl) rfl
theorem q3338 : (Jvm.Cond.methodLink "FairHouseLaw" (105 : Nat) ({ cls := "FairHouseModel", name := "measure", desc := "(II)I" } : Jvm.MethodName)) ∈ lw_all := lw_g (lw_at lw_m14 100 rfl) rfl
theorem q3342 : (Jvm.Cond.methodLink "FairHouseLaw" (108 : Nat) ({ cls := "FairHouseModel", name := "says", desc := "(II)I" } : Jvm.MethodName)) ∈ lw_all := lw_g (lw_at lw_m14 104 rfl) rfl
theorem q3350 : (Jvm.Cond.methodLink "FairHouseLaw" (111 : Nat) ({ cls := "FairHouseModel", name := "script", desc := "(II)I" } : Jvm.MethodName)) ∈ lw_all := lw_g (lw_at lw_m14 112 rfl) rfl
theorem q3354 : (Jvm.Cond.methodLink "FairHouseLaw" (114 : Nat) ({ cls := "FairHouseModel", name := "free", desc := "(I)I" } : Jvm.MethodName)) ∈ lw_all := lw_g (lw_at lw_m14 116 rfl) rfl
theorem q3358 : (Jvm.Cond.methodLink "FairHouseLaw" (117 : Nat) ({ cls := "FairHouseModel", name := "isUp", desc := "(I)Z" } : Jvm.MethodName)) ∈ lw_all := lw_g (lw_at lw_m14 120 rfl) rfl
theorem q3362 : (Jvm.Cond.methodLink "FairHouseLaw" (121 : Nat) ({ cls := "FairHouseModel", name := "set", desc := "(IZ)Z" } : Jvm.MethodName)) ∈ lw_all := lw_g (lw_at lw_m14 124 rfl) rfl
theorem q3366 : (Jvm.Cond.methodLink "FairHouseLaw" (124 : Nat) ({ cls := "FairHouseModel", name := "total", desc := "(I)I" } : Jvm.MethodName)) ∈ lw_all := lw_g (lw_at lw_m14 128 rfl) rfl
theorem q3370 : (Jvm.Cond.methodLink "FairHouseLaw" (127 : Nat) ({ cls := "FairHouseModel", name := "log", desc := "(II)I" } : Jvm.MethodName)) ∈ lw_all := lw_g (lw_at lw_m14 132 rfl) rfl
theorem q119 : (Jvm.Cond.initialized "FairHouse") ∈ lw_all := lw_g (lw_at lw_m1 1 rfl) rfl
theorem q180 : (Jvm.Cond.instantiable "FairHouse" (17 : Nat)) ∈ lw_all := lw_g (lw_at lw_m1 62 rfl) rfl
theorem q182 : (Jvm.Cond.instanceMethod ({ cls := "FairHouse", name := "<init>", desc := "()V" } : Jvm.MethodName)) ∈ lw_all := lw_g (lw_at lw_m1 64 rfl) rfl
theorem q183 : (Jvm.Cond.code ({ cls := "FairHouse", name := "<init>", desc := "()V" } : Jvm.MethodName) prog_1_method_4_code (1 : Nat) (Option.none : Option Jvm.ClassFile.FieldType)) ∈ lw_all := lw_g (lw_at lw_m1 65 rfl) rfl
theorem q184 : (Jvm.Cond.methodLink "FairHouse" (31 : Nat) ({ cls := "java/lang/Object", name := "<init>", desc := "()V" } : Jvm.MethodName)) ∈ lw_all := lw_g (lw_at lw_m1 66 rfl) rfl
theorem q187 : (Jvm.Cond.fieldLink "FairHouse" (37 : Nat) "FairHouse" "tape" "[B") ∈ lw_all := lw_g (lw_at lw_m1 69 rfl) rfl
theorem q188 : (Jvm.Cond.fieldLink "FairHouse" (65 : Nat) "FairHouse" "taped" "I") ∈ lw_all := lw_g (lw_at lw_m1 70 rfl) rfl
theorem q189 : (Jvm.Cond.fieldLink "FairHouse" (79 : Nat) "FairHouse" "faultKind" "I") ∈ lw_all := lw_g (lw_at lw_m1 71 rfl) rfl
theorem q190 : (Jvm.Cond.fieldLink "FairHouse" (41 : Nat) "FairHouse" "faultPlace" "I") ∈ lw_all := lw_g (lw_at lw_m1 72 rfl) rfl
theorem q191 : (Jvm.Cond.fieldLink "FairHouse" (75 : Nat) "FairHouse" "fair" "LFairHouse$Reader;") ∈ lw_all := lw_g (lw_at lw_m1 73 rfl) rfl
theorem q193 : (Jvm.Cond.fieldLink "FairHouse" (133 : Nat) "FairHouse" "clock" "I") ∈ lw_all := lw_g (lw_at lw_m1 75 rfl) rfl
theorem q195 : (Jvm.Cond.fieldLink "FairHouse" (136 : Nat) "FairHouse" "wind" "I") ∈ lw_all := lw_g (lw_at lw_m1 77 rfl) rfl
theorem q199 : (Jvm.Cond.fieldLink "FairHouse" (327 : Nat) "FairHouse" "stall" "I") ∈ lw_all := lw_g (lw_at lw_m1 81 rfl) rfl
theorem q200 : (Jvm.Cond.fieldLink "FairHouse" (139 : Nat) "FairHouse" "served" "I") ∈ lw_all := lw_g (lw_at lw_m1 82 rfl) rfl
theorem q201 : (Jvm.Cond.fieldLink "FairHouse" (142 : Nat) "FairHouse" "gone" "I") ∈ lw_all := lw_g (lw_at lw_m1 83 rfl) rfl
theorem q202 : (Jvm.Cond.fieldLink "FairHouse" (45 : Nat) "FairHouse" "free" "[I") ∈ lw_all := lw_g (lw_at lw_m1 84 rfl) rfl
theorem q204 : (Jvm.Cond.fieldLink "FairHouse" (49 : Nat) "FairHouse" "flags" "[Z") ∈ lw_all := lw_g (lw_at lw_m1 86 rfl) rfl
theorem q205 : (Jvm.Cond.fieldLink "FairHouse" (53 : Nat) "FairHouse" "logCode" "[I") ∈ lw_all := lw_g (lw_at lw_m1 87 rfl) rfl
theorem q206 : (Jvm.Cond.fieldLink "FairHouse" (56 : Nat) "FairHouse" "logRide" "[I") ∈ lw_all := lw_g (lw_at lw_m1 88 rfl) rfl
theorem q207 : (Jvm.Cond.fieldLink "FairHouse" (59 : Nat) "FairHouse" "logNumber" "[I") ∈ lw_all := lw_g (lw_at lw_m1 89 rfl) rfl
theorem q208 : (Jvm.Cond.fieldLink "FairHouse" (62 : Nat) "FairHouse" "logClock" "[I") ∈ lw_all := lw_g (lw_at lw_m1 90 rfl) rfl
theorem q209 : (Jvm.Cond.fieldLink "FairHouse" (145 : Nat) "FairHouse" "logged" "I") ∈ lw_all := lw_g (lw_at lw_m1 91 rfl) rfl
theorem q210 : (Jvm.Cond.laysFinal "FairHouse" "FairHouse" "tape" "[B") ∈ lw_all := lw_g (lw_at lw_m1 92 rfl) rfl
theorem q211 : (Jvm.Cond.soleField "FairHouse" "tape") ∈ lw_all := lw_g (lw_at lw_m1 93 rfl) rfl
theorem q212 : (Jvm.Cond.lays "FairHouse" "FairHouse" "taped" "I") ∈ lw_all := lw_g (lw_at lw_m1 94 rfl) rfl
theorem q213 : (Jvm.Cond.soleField "FairHouse" "taped") ∈ lw_all := lw_g (lw_at lw_m1 95 rfl) rfl
theorem q214 : (Jvm.Cond.lays "FairHouse" "FairHouse" "faultKind" "I") ∈ lw_all := lw_g (lw_at lw_m1 96 rfl) rfl
theorem q215 : (Jvm.Cond.soleField "FairHouse" "faultKind") ∈ lw_all := lw_g (lw_at lw_m1 97 rfl) rfl
theorem q216 : (Jvm.Cond.lays "FairHouse" "FairHouse" "faultPlace" "I") ∈ lw_all := lw_g (lw_at lw_m1 98 rfl) rfl
theorem q217 : (Jvm.Cond.soleField "FairHouse" "faultPlace") ∈ lw_all := lw_g (lw_at lw_m1 99 rfl) rfl
theorem q218 : (Jvm.Cond.lays "FairHouse" "FairHouse" "fair" "LFairHouse$Reader;") ∈ lw_all := lw_g (lw_at lw_m1 100 rfl) rfl
theorem q219 : (Jvm.Cond.soleField "FairHouse" "fair") ∈ lw_all := lw_g (lw_at lw_m1 101 rfl) rfl
theorem q220 : (Jvm.Cond.lays "FairHouse" "FairHouse" "clock" "I") ∈ lw_all := lw_g (lw_at lw_m1 102 rfl) rfl
theorem q221 : (Jvm.Cond.soleField "FairHouse" "clock") ∈ lw_all := lw_g (lw_at lw_m1 103 rfl) rfl
theorem q222 : (Jvm.Cond.lays "FairHouse" "FairHouse" "wind" "I") ∈ lw_all := lw_g (lw_at lw_m1 104 rfl) rfl
theorem q223 : (Jvm.Cond.soleField "FairHouse" "wind") ∈ lw_all := lw_g (lw_at lw_m1 105 rfl) rfl
theorem q224 : (Jvm.Cond.lays "FairHouse" "FairHouse" "stall" "I") ∈ lw_all := lw_g (lw_at lw_m1 106 rfl) rfl
theorem q225 : (Jvm.Cond.soleField "FairHouse" "stall") ∈ lw_all := lw_g (lw_at lw_m1 107 rfl) rfl
theorem q226 : (Jvm.Cond.lays "FairHouse" "FairHouse" "served" "I") ∈ lw_all := lw_g (lw_at lw_m1 108 rfl) rfl
theorem q227 : (Jvm.Cond.soleField "FairHouse" "served") ∈ lw_all := lw_g (lw_at lw_m1 109 rfl) rfl
theorem q228 : (Jvm.Cond.lays "FairHouse" "FairHouse" "gone" "I") ∈ lw_all := lw_g (lw_at lw_m1 110 rfl) rfl
theorem q229 : (Jvm.Cond.soleField "FairHouse" "gone") ∈ lw_all := lw_g (lw_at lw_m1 111 rfl) rfl
theorem q230 : (Jvm.Cond.laysFinal "FairHouse" "FairHouse" "free" "[I") ∈ lw_all := lw_g (lw_at lw_m1 112 rfl) rfl
theorem q231 : (Jvm.Cond.soleField "FairHouse" "free") ∈ lw_all := lw_g (lw_at lw_m1 113 rfl) rfl
theorem q232 : (Jvm.Cond.laysFinal "FairHouse" "FairHouse" "flags" "[Z") ∈ lw_all := lw_g (lw_at lw_m1 114 rfl) rfl
theorem q233 : (Jvm.Cond.soleField "FairHouse" "flags") ∈ lw_all := lw_g (lw_at lw_m1 115 rfl) rfl
theorem q234 : (Jvm.Cond.laysFinal "FairHouse" "FairHouse" "logCode" "[I") ∈ lw_all := lw_g (lw_at lw_m1 116 rfl) rfl
theorem q235 : (Jvm.Cond.soleField "FairHouse" "logCode") ∈ lw_all := lw_g (lw_at lw_m1 117 rfl) rfl
theorem q236 : (Jvm.Cond.laysFinal "FairHouse" "FairHouse" "logRide" "[I") ∈ lw_all := lw_g (lw_at lw_m1 118 rfl) rfl
theorem q237 : (Jvm.Cond.soleField "FairHouse" "logRide") ∈ lw_all := lw_g (lw_at lw_m1 119 rfl) rfl
theorem q238 : (Jvm.Cond.laysFinal "FairHouse" "FairHouse" "logNumber" "[I") ∈ lw_all := lw_g (lw_at lw_m1 120 rfl) rfl
theorem q239 : (Jvm.Cond.soleField "FairHouse" "logNumber") ∈ lw_all := lw_g (lw_at lw_m1 121 rfl) rfl
theorem q240 : (Jvm.Cond.laysFinal "FairHouse" "FairHouse" "logClock" "[I") ∈ lw_all := lw_g (lw_at lw_m1 122 rfl) rfl
theorem q241 : (Jvm.Cond.soleField "FairHouse" "logClock") ∈ lw_all := lw_g (lw_at lw_m1 123 rfl) rfl
theorem q242 : (Jvm.Cond.lays "FairHouse" "FairHouse" "logged" "I") ∈ lw_all := lw_g (lw_at lw_m1 124 rfl) rfl
theorem q243 : (Jvm.Cond.soleField "FairHouse" "logged") ∈ lw_all := lw_g (lw_at lw_m1 125 rfl) rfl
theorem q244 : (Jvm.Cond.superclass "FairHouse" "java/lang/Object") ∈ lw_all := lw_g (lw_at lw_m1 126 rfl) rfl
theorem q249 : (Jvm.Cond.instanceMethod ({ cls := "FairHouse", name := "feed", desc := "(IIIII)I" } : Jvm.MethodName)) ∈ lw_all := lw_g (lw_at lw_m1 131 rfl) rfl
theorem q250 : (Jvm.Cond.selects "FairHouse" ({ cls := "FairHouse", name := "feed", desc := "(IIIII)I" } : Jvm.MethodName) ({ cls := "FairHouse", name := "feed", desc := "(IIIII)I" } : Jvm.MethodName)) ∈ lw_all := lw_g (lw_at lw_m1 132 rfl) rfl
theorem q251 : (Jvm.Cond.code ({ cls := "FairHouse", name := "feed", desc := "(IIIII)I" } : Jvm.MethodName) prog_1_method_5_code (6 : Nat) (Option.some Jvm.ClassFile.FieldType.int)) ∈ lw_all := lw_g (lw_at lw_m1 133 rfl) rfl
theorem q252 : (Jvm.Cond.methodLink "FairHouse" (68 : Nat) ({ cls := "FairHouse", name := "put", desc := "(I)V" } : Jvm.MethodName)) ∈ lw_all := lw_g (lw_at lw_m1 134 rfl) rfl
theorem q253 : (Jvm.Cond.privateMethod ({ cls := "FairHouse", name := "put", desc := "(I)V" } : Jvm.MethodName)) ∈ lw_tbl := lw_at lw_m1 135 rfl
theorem q254 : (Jvm.Cond.instanceMethod ({ cls := "FairHouse", name := "put", desc := "(I)V" } : Jvm.MethodName)) ∈ lw_all := lw_g (lw_at lw_m1 136 rfl) rfl
theorem q255 : (Jvm.Cond.code ({ cls := "FairHouse", name := "put", desc := "(I)V" } : Jvm.MethodName) prog_1_method_6_code (3 : Nat) (Option.none : Option Jvm.ClassFile.FieldType)) ∈ lw_all := lw_g (lw_at lw_m1 137 rfl) rfl
theorem q261 : (Jvm.Cond.instanceMethod ({ cls := "FairHouse", name := "read", desc := "(I)I" } : Jvm.MethodName)) ∈ lw_all := lw_g (lw_at lw_m1 143 rfl) rfl
theorem q262 : (Jvm.Cond.selects "FairHouse" ({ cls := "FairHouse", name := "read", desc := "(I)I" } : Jvm.MethodName) ({ cls := "FairHouse", name := "read", desc := "(I)I" } : Jvm.MethodName)) ∈ lw_all := lw_g (lw_at lw_m1 144 rfl) rfl
theorem q263 : (Jvm.Cond.codeWith ({ cls := "FairHouse", name := "read", desc := "(I)I" } : Jvm.MethodName) prog_1_method_7_code (4 : Nat) (Option.some Jvm.ClassFile.FieldType.int) [((53 : Nat), (66 : Nat), (69 : Nat), (92 : Nat))]) ∈ lw_all := lw_g (lw_at lw_m1 145 rfl) rfl
theorem q264 : (Jvm.Cond.classLink "FairHouse" (92 : Nat) "FairHouse$Wrong") ∈ lw_all := lw_g (lw_at lw_m1 146 rfl) rfl
theorem q265 : (Jvm.Cond.classLink "FairHouse" (72 : Nat) "java/lang/IllegalArgumentException") ∈ lw_all := lw_g (lw_at lw_m1 147 rfl) rfl
theorem q308 : (Jvm.Cond.methodLink "FairHouse" (74 : Nat) ({ cls := "java/lang/IllegalArgumentException", name := "<init>", desc := "()V" } : Jvm.MethodName)) ∈ lw_all := lw_g (lw_at lw_m1 190 rfl) rfl
theorem q331 : (Jvm.Cond.classLink "FairHouse" (82 : Nat) "FairHouse$Reader") ∈ lw_all := lw_g (lw_at lw_m1 213 rfl) rfl
theorem q333 : (Jvm.Cond.methodLink "FairHouse" (84 : Nat) ({ cls := "FairHouse$Reader", name := "<init>", desc := "([BI)V" } : Jvm.MethodName)) ∈ lw_all := lw_g (lw_at lw_m1 215 rfl) rfl
theorem q639 : (Jvm.Cond.fieldLinkNest "FairHouse" (104 : Nat) "FairHouse$Reader" "rides" "Ljava/util/ArrayList;" "FairHouse") ∈ lw_tbl := lw_at lw_m3 41 rfl
theorem q641 : (Jvm.Cond.fieldLinkNest "FairHouse" (148 : Nat) "FairHouse$Reader" "staff" "[I" "FairHouse") ∈ lw_tbl := lw_at lw_m3 43 rfl
theorem q642 : (Jvm.Cond.fieldLinkNest "FairHouse" (113 : Nat) "FairHouse$Reader" "staffs" "I" "FairHouse") ∈ lw_tbl := lw_at lw_m3 44 rfl
theorem q644 : (Jvm.Cond.fieldLinkNest "FairHouse" (116 : Nat) "FairHouse$Reader" "flags" "I" "FairHouse") ∈ lw_tbl := lw_at lw_m3 46 rfl
theorem q647 : (Jvm.Cond.fieldLinkNest "FairHouse" (118 : Nat) "FairHouse$Reader" "power" "I" "FairHouse") ∈ lw_tbl := lw_at lw_m3 49 rfl
theorem q697 : (Jvm.Cond.methodLink "FairHouse" (87 : Nat) ({ cls := "FairHouse$Reader", name := "fair", desc := "()V" } : Jvm.MethodName)) ∈ lw_all := lw_g (lw_at lw_m3 99 rfl) rfl
theorem q794 : (Jvm.Cond.static ({ cls := "FairHouse", name := "word", desc := "(Ljava/lang/String;)J" } : Jvm.MethodName)) ∈ lw_all := lw_g (lw_at lw_m3 196 rfl) rfl
theorem q795 : (Jvm.Cond.code ({ cls := "FairHouse", name := "word", desc := "(Ljava/lang/String;)J" } : Jvm.MethodName) prog_1_method_1_code (4 : Nat) (Option.some Jvm.ClassFile.FieldType.long)) ∈ lw_all := lw_g (lw_at lw_m3 197 rfl) rfl
theorem q796 : (Jvm.Cond.methodLink "FairHouse" (1 : Nat) ({ cls := "java/lang/String", name := "length", desc := "()I" } : Jvm.MethodName)) ∈ lw_all := lw_g (lw_at lw_m3 198 rfl) rfl
theorem q797 : (Jvm.Cond.methodLink "FairHouse" (7 : Nat) ({ cls := "java/lang/String", name := "charAt", desc := "(I)C" } : Jvm.MethodName)) ∈ lw_all := lw_g (lw_at lw_m3 199 rfl) rfl
theorem q835 : (Jvm.Cond.fieldLinkNest "FairHouse" (94 : Nat) "FairHouse$Wrong" "kind" "I" "FairHouse") ∈ lw_tbl := lw_at lw_m3 237 rfl
theorem q837 : (Jvm.Cond.fieldLinkNest "FairHouse" (97 : Nat) "FairHouse$Wrong" "place" "I" "FairHouse") ∈ lw_tbl := lw_at lw_m3 239 rfl
theorem q866 : (Jvm.Cond.static ({ cls := "FairHouse", name := "isReserved", desc := "(J)Z" } : Jvm.MethodName)) ∈ lw_all := lw_g (lw_at lw_m4 28 rfl) rfl
theorem q867 : (Jvm.Cond.code ({ cls := "FairHouse", name := "isReserved", desc := "(J)Z" } : Jvm.MethodName) prog_1_method_3_code (2 : Nat) (Option.some Jvm.ClassFile.FieldType.boolean)) ∈ lw_all := lw_g (lw_at lw_m4 29 rfl) rfl
theorem q868 : (Jvm.Cond.stringRef "FairHouse" (13 : Nat) "spin lift glow sound load unload mend wait until claim free raise lower let repeat loop if guard leave stop ") ∈ lw_tbl := lw_at lw_m4 30 rfl
theorem q869 : (Jvm.Cond.methodLink "FairHouse" (15 : Nat) ({ cls := "FairHouse", name := "among", desc := "(Ljava/lang/String;J)I" } : Jvm.MethodName)) ∈ lw_all := lw_g (lw_at lw_m4 31 rfl) rfl
theorem q870 : (Jvm.Cond.static ({ cls := "FairHouse", name := "among", desc := "(Ljava/lang/String;J)I" } : Jvm.MethodName)) ∈ lw_all := lw_g (lw_at lw_m4 32 rfl) rfl
theorem q871 : (Jvm.Cond.code ({ cls := "FairHouse", name := "among", desc := "(Ljava/lang/String;J)I" } : Jvm.MethodName) prog_1_method_2_code (7 : Nat) (Option.some Jvm.ClassFile.FieldType.int)) ∈ lw_all := lw_g (lw_at lw_m4 33 rfl) rfl
theorem q872 : (Jvm.Cond.stringRef "FairHouse" (19 : Nat) "let") ∈ lw_tbl := lw_at lw_m4 34 rfl
theorem q873 : (Jvm.Cond.methodLink "FairHouse" (21 : Nat) ({ cls := "FairHouse", name := "word", desc := "(Ljava/lang/String;)J" } : Jvm.MethodName)) ∈ lw_all := lw_g (lw_at lw_m4 35 rfl) rfl
theorem q874 : (Jvm.Cond.stringRef "FairHouse" (25 : Nat) "wheel tower swing organ arch comet ghost star tail ") ∈ lw_tbl := lw_at lw_m4 36 rfl
theorem q875 : (Jvm.Cond.stringRef "FairHouse" (27 : Nat) "speed height aboard glow volume wear queue ") ∈ lw_tbl := lw_at lw_m4 37 rfl
theorem q876 : (Jvm.Cond.stringRef "FairHouse" (29 : Nat) "power staff flag ride on else up and or not why clock wind r0 r1 r2 r3 ") ∈ lw_tbl := lw_at lw_m4 38 rfl
theorem q943 : (Jvm.Cond.selects "FairHouse" ({ cls := "java/lang/Object", name := "getClass", desc := "()Ljava/lang/Class;" } : Jvm.MethodName) ({ cls := "java/lang/Object", name := "getClass", desc := "()Ljava/lang/Class;" } : Jvm.MethodName)) ∈ lw_all := lw_g (lw_at lw_m4 105 rfl) rfl
theorem q1024 : (Jvm.Cond.fieldLinkNest "FairHouse" (383 : Nat) "FairHouse$Script" "registers" "[I" "FairHouse") ∈ lw_tbl := lw_at lw_m4 186 rfl
theorem q1026 : (Jvm.Cond.fieldLinkNest "FairHouse" (302 : Nat) "FairHouse$Script" "held" "[I" "FairHouse") ∈ lw_tbl := lw_at lw_m4 188 rfl
theorem q1032 : (Jvm.Cond.fieldLinkNest "FairHouse" (334 : Nat) "FairHouse$Script" "pc" "I" "FairHouse") ∈ lw_tbl := lw_at lw_m4 194 rfl
theorem q1033 : (Jvm.Cond.fieldLinkNest "FairHouse" (409 : Nat) "FairHouse$Script" "left" "I" "FairHouse") ∈ lw_tbl := lw_at lw_m4 195 rfl
theorem q1036 : (Jvm.Cond.fieldLinkNest "FairHouse" (305 : Nat) "FairHouse$Script" "why" "I" "FairHouse") ∈ lw_tbl := lw_at lw_m4 198 rfl
theorem q1038 : (Jvm.Cond.fieldLinkNest "FairHouse" (272 : Nat) "FairHouse$Script" "state" "I" "FairHouse") ∈ lw_tbl := lw_at lw_m4 200 rfl
theorem q1040 : (Jvm.Cond.fieldLinkNest "FairHouse" (324 : Nat) "FairHouse$Script" "counted" "I" "FairHouse") ∈ lw_tbl := lw_at lw_m4 202 rfl
theorem q1042 : (Jvm.Cond.fieldLinkNest "FairHouse" (294 : Nat) "FairHouse$Script" "begun" "Z" "FairHouse") ∈ lw_tbl := lw_at lw_m4 204 rfl
theorem q1085 : (Jvm.Cond.fieldLinkNest "FairHouse" (173 : Nat) "FairHouse$Spin" "speed" "I" "FairHouse") ∈ lw_tbl := lw_at lw_m5 7 rfl
theorem q1087 : (Jvm.Cond.fieldLinkNest "FairHouse" (204 : Nat) "FairHouse$Spin" "goal" "I" "FairHouse") ∈ lw_tbl := lw_at lw_m5 9 rfl
theorem q1104 : (Jvm.Cond.fieldLinkNest "FairHouse" (431 : Nat) "FairHouse$Bench" "places" "I" "FairHouse") ∈ lw_tbl := lw_at lw_m5 26 rfl
theorem q1108 : (Jvm.Cond.fieldLinkNest "FairHouse" (230 : Nat) "FairHouse$Bench" "aboard" "I" "FairHouse") ∈ lw_tbl := lw_at lw_m5 30 rfl
theorem q1112 : (Jvm.Cond.fieldLinkNest "FairHouse" (233 : Nat) "FairHouse$Bench" "waiting" "I" "FairHouse") ∈ lw_tbl := lw_at lw_m5 34 rfl
theorem q1114 : (Jvm.Cond.fieldLinkNest "FairHouse" (443 : Nat) "FairHouse$Bench" "waited" "I" "FairHouse") ∈ lw_tbl := lw_at lw_m5 36 rfl
theorem q1135 : (Jvm.Cond.fieldLink "FairHouse" (426 : Nat) "FairHouse$Ride" "kind" "I") ∈ lw_all := lw_g (lw_at lw_m5 57 rfl) rfl
theorem q1139 : (Jvm.Cond.fieldLink "FairHouse" (154 : Nat) "FairHouse$Ride" "script" "LFairHouse$Script;") ∈ lw_all := lw_g (lw_at lw_m5 61 rfl) rfl
theorem q1141 : (Jvm.Cond.fieldLink "FairHouse" (151 : Nat) "FairHouse$Ride" "wear" "I") ∈ lw_all := lw_g (lw_at lw_m5 63 rfl) rfl
theorem q1174 : (Jvm.Cond.fieldLinkNest "FairHouse" (184 : Nat) "FairHouse$Hoist" "height" "I" "FairHouse") ∈ lw_tbl := lw_at lw_m5 96 rfl
theorem q1176 : (Jvm.Cond.fieldLinkNest "FairHouse" (207 : Nat) "FairHouse$Hoist" "goal" "I" "FairHouse") ∈ lw_tbl := lw_at lw_m5 98 rfl
theorem q1179 : (Jvm.Cond.fieldLinkNest "FairHouse" (189 : Nat) "FairHouse$Hoist" "moved" "I" "FairHouse") ∈ lw_tbl := lw_at lw_m5 101 rfl
theorem q1245 : (Jvm.Cond.fieldLinkNest "FairHouse" (225 : Nat) "FairHouse$Voice" "volume" "I" "FairHouse") ∈ lw_tbl := lw_at lw_m5 167 rfl
theorem q1278 : (Jvm.Cond.fieldLinkNest "FairHouse" (214 : Nat) "FairHouse$Light" "glow" "I" "FairHouse") ∈ lw_tbl := lw_at lw_m5 200 rfl
theorem q1481 : (Jvm.Cond.fieldLinkNest "FairHouse" (319 : Nat) "FairHouse$Act" "op" "I" "FairHouse") ∈ lw_tbl := lw_at lw_m6 163 rfl
theorem q1486 : (Jvm.Cond.fieldLinkNest "FairHouse" (337 : Nat) "FairHouse$Act" "expr" "LFairHouse$Expr;" "FairHouse") ∈ lw_tbl := lw_at lw_m6 168 rfl
theorem q1488 : (Jvm.Cond.fieldLinkNest "FairHouse" (362 : Nat) "FairHouse$Act" "cond" "LFairHouse$Cond;" "FairHouse") ∈ lw_tbl := lw_at lw_m6 170 rfl
theorem q1490 : (Jvm.Cond.fieldLinkNest "FairHouse" (376 : Nat) "FairHouse$Act" "number" "I" "FairHouse") ∈ lw_tbl := lw_at lw_m6 172 rfl
theorem q1494 : (Jvm.Cond.fieldLinkNest "FairHouse" (390 : Nat) "FairHouse$Act" "to" "I" "FairHouse") ∈ lw_tbl := lw_at lw_m6 176 rfl
theorem q1718 : (Jvm.Cond.methodLink "FairHouse" (89 : Nat) ({ cls := "FairHouse", name := "begin", desc := "()V" } : Jvm.MethodName)) ∈ lw_all := lw_g (lw_at lw_m7 160 rfl) rfl
theorem q1719 : (Jvm.Cond.privateMethod ({ cls := "FairHouse", name := "begin", desc := "()V" } : Jvm.MethodName)) ∈ lw_tbl := lw_at lw_m7 161 rfl
theorem q1720 : (Jvm.Cond.instanceMethod ({ cls := "FairHouse", name := "begin", desc := "()V" } : Jvm.MethodName)) ∈ lw_all := lw_g (lw_at lw_m7 162 rfl) rfl
theorem q1721 : (Jvm.Cond.code ({ cls := "FairHouse", name := "begin", desc := "()V" } : Jvm.MethodName) prog_1_method_14_code (4 : Nat) (Option.none : Option Jvm.ClassFile.FieldType)) ∈ lw_all := lw_g (lw_at lw_m7 163 rfl) rfl
theorem q1722 : (Jvm.Cond.methodLink "FairHouse" (108 : Nat) ({ cls := "java/util/ArrayList", name := "size", desc := "()I" } : Jvm.MethodName)) ∈ lw_all := lw_g (lw_at lw_m7 164 rfl) rfl
theorem q1723 : (Jvm.Cond.methodLink "FairHouse" (127 : Nat) ({ cls := "java/util/ArrayList", name := "get", desc := "(I)Ljava/lang/Object;" } : Jvm.MethodName)) ∈ lw_all := lw_g (lw_at lw_m7 165 rfl) rfl
theorem q1724 : (Jvm.Cond.classLink "FairHouse" (131 : Nat) "FairHouse$Ride") ∈ lw_all := lw_g (lw_at lw_m7 166 rfl) rfl
theorem q1725 : (Jvm.Cond.methodLink "FairHouse" (158 : Nat) ({ cls := "FairHouse$Script", name := "clear", desc := "()V" } : Jvm.MethodName)) ∈ lw_all := lw_g (lw_at lw_m7 167 rfl) rfl
theorem q1729 : (Jvm.Cond.methodLink "FairHouse" (163 : Nat) ({ cls := "FairHouse", name := "goals", desc := "(LFairHouse$Ride;)V" } : Jvm.MethodName)) ∈ lw_all := lw_g (lw_at lw_m7 171 rfl) rfl
theorem q1730 : (Jvm.Cond.static ({ cls := "FairHouse", name := "goals", desc := "(LFairHouse$Ride;)V" } : Jvm.MethodName)) ∈ lw_all := lw_g (lw_at lw_m7 172 rfl) rfl
theorem q1731 : (Jvm.Cond.code ({ cls := "FairHouse", name := "goals", desc := "(LFairHouse$Ride;)V" } : Jvm.MethodName) prog_1_method_15_code (2 : Nat) (Option.none : Option Jvm.ClassFile.FieldType)) ∈ lw_all := lw_g (lw_at lw_m7 173 rfl) rfl
theorem q1732 : (Jvm.Cond.classLink "FairHouse" (167 : Nat) "FairHouse$Turns") ∈ lw_all := lw_g (lw_at lw_m7 174 rfl) rfl
theorem q1733 : (Jvm.Cond.interfaceEntry "FairHouse" (169 : Nat)) ∈ lw_tbl := lw_at lw_m7 175 rfl
theorem q1734 : (Jvm.Cond.methodLink "FairHouse" (169 : Nat) ({ cls := "FairHouse$Turns", name := "spin", desc := "()LFairHouse$Spin;" } : Jvm.MethodName)) ∈ lw_all := lw_g (lw_at lw_m7 176 rfl) rfl
theorem q1735 : (Jvm.Cond.classLink "FairHouse" (178 : Nat) "FairHouse$Lifts") ∈ lw_all := lw_g (lw_at lw_m7 177 rfl) rfl
theorem q1736 : (Jvm.Cond.interfaceEntry "FairHouse" (180 : Nat)) ∈ lw_tbl := lw_at lw_m7 178 rfl
theorem q1737 : (Jvm.Cond.methodLink "FairHouse" (180 : Nat) ({ cls := "FairHouse$Lifts", name := "hoist", desc := "()LFairHouse$Hoist;" } : Jvm.MethodName)) ∈ lw_all := lw_g (lw_at lw_m7 179 rfl) rfl
theorem q1764 : (Jvm.Cond.methodLink "FairHouse" (192 : Nat) ({ cls := "FairHouse", name := "dark", desc := "(LFairHouse$Ride;)V" } : Jvm.MethodName)) ∈ lw_all := lw_g (lw_at lw_m7 206 rfl) rfl
theorem q1765 : (Jvm.Cond.static ({ cls := "FairHouse", name := "dark", desc := "(LFairHouse$Ride;)V" } : Jvm.MethodName)) ∈ lw_all := lw_g (lw_at lw_m7 207 rfl) rfl
theorem q1766 : (Jvm.Cond.code ({ cls := "FairHouse", name := "dark", desc := "(LFairHouse$Ride;)V" } : Jvm.MethodName) prog_1_method_16_code (2 : Nat) (Option.none : Option Jvm.ClassFile.FieldType)) ∈ lw_all := lw_g (lw_at lw_m7 208 rfl) rfl
theorem q1767 : (Jvm.Cond.classLink "FairHouse" (208 : Nat) "FairHouse$Lamps") ∈ lw_all := lw_g (lw_at lw_m7 209 rfl) rfl
theorem q1768 : (Jvm.Cond.interfaceEntry "FairHouse" (210 : Nat)) ∈ lw_tbl := lw_at lw_m7 210 rfl
theorem q1769 : (Jvm.Cond.methodLink "FairHouse" (210 : Nat) ({ cls := "FairHouse$Lamps", name := "light", desc := "()LFairHouse$Light;" } : Jvm.MethodName)) ∈ lw_all := lw_g (lw_at lw_m7 211 rfl) rfl
theorem q1796 : (Jvm.Cond.classLink "FairHouse" (219 : Nat) "FairHouse$Sounds") ∈ lw_all := lw_g (lw_at lw_m7 238 rfl) rfl
theorem q1797 : (Jvm.Cond.interfaceEntry "FairHouse" (221 : Nat)) ∈ lw_tbl := lw_at lw_m7 239 rfl
theorem q1798 : (Jvm.Cond.methodLink "FairHouse" (221 : Nat) ({ cls := "FairHouse$Sounds", name := "voice", desc := "()LFairHouse$Voice;" } : Jvm.MethodName)) ∈ lw_all := lw_g (lw_at lw_m8 0 rfl) rfl
theorem q1825 : (Jvm.Cond.classLink "FairHouse" (195 : Nat) "FairHouse$Seats") ∈ lw_all := lw_g (lw_at lw_m8 27 rfl) rfl
theorem q1826 : (Jvm.Cond.interfaceEntry "FairHouse" (197 : Nat)) ∈ lw_tbl := lw_at lw_m8 28 rfl
theorem q1827 : (Jvm.Cond.methodLink "FairHouse" (197 : Nat) ({ cls := "FairHouse$Seats", name := "bench", desc := "()LFairHouse$Bench;" } : Jvm.MethodName)) ∈ lw_all := lw_g (lw_at lw_m8 29 rfl) rfl
theorem q1866 : (Jvm.Cond.methodLink "FairHouse" (201 : Nat) ({ cls := "FairHouse$Bench", name := "clear", desc := "()V" } : Jvm.MethodName)) ∈ lw_all := lw_g (lw_at lw_m8 68 rfl) rfl
theorem q1893 : (Jvm.Cond.instanceMethod ({ cls := "FairHouse", name := "fault", desc := "(I)I" } : Jvm.MethodName)) ∈ lw_all := lw_g (lw_at lw_m8 95 rfl) rfl
theorem q1894 : (Jvm.Cond.selects "FairHouse" ({ cls := "FairHouse", name := "fault", desc := "(I)I" } : Jvm.MethodName) ({ cls := "FairHouse", name := "fault", desc := "(I)I" } : Jvm.MethodName)) ∈ lw_all := lw_g (lw_at lw_m8 96 rfl) rfl
theorem q1895 : (Jvm.Cond.code ({ cls := "FairHouse", name := "fault", desc := "(I)I" } : Jvm.MethodName) prog_1_method_8_code (2 : Nat) (Option.some Jvm.ClassFile.FieldType.int)) ∈ lw_all := lw_g (lw_at lw_m8 97 rfl) rfl
theorem q1896 : (Jvm.Cond.methodLink "FairHouse" (100 : Nat) ({ cls := "FairHouse", name := "there", desc := "(Z)V" } : Jvm.MethodName)) ∈ lw_all := lw_g (lw_at lw_m8 98 rfl) rfl
theorem q1897 : (Jvm.Cond.static ({ cls := "FairHouse", name := "there", desc := "(Z)V" } : Jvm.MethodName)) ∈ lw_all := lw_g (lw_at lw_m8 99 rfl) rfl
theorem q1898 : (Jvm.Cond.code ({ cls := "FairHouse", name := "there", desc := "(Z)V" } : Jvm.MethodName) prog_1_method_10_code (1 : Nat) (Option.none : Option Jvm.ClassFile.FieldType)) ∈ lw_all := lw_g (lw_at lw_m8 100 rfl) rfl
theorem q1899 : (Jvm.Cond.classLink "FairHouse" (121 : Nat) "java/lang/IndexOutOfBoundsException") ∈ lw_all := lw_g (lw_at lw_m8 101 rfl) rfl
theorem q1908 : (Jvm.Cond.methodLink "FairHouse" (123 : Nat) ({ cls := "java/lang/IndexOutOfBoundsException", name := "<init>", desc := "()V" } : Jvm.MethodName)) ∈ lw_all := lw_g (lw_at lw_m8 110 rfl) rfl
theorem q1918 : (Jvm.Cond.instanceMethod ({ cls := "FairHouse", name := "count", desc := "(I)I" } : Jvm.MethodName)) ∈ lw_all := lw_g (lw_at lw_m8 120 rfl) rfl
theorem q1919 : (Jvm.Cond.selects "FairHouse" ({ cls := "FairHouse", name := "count", desc := "(I)I" } : Jvm.MethodName) ({ cls := "FairHouse", name := "count", desc := "(I)I" } : Jvm.MethodName)) ∈ lw_all := lw_g (lw_at lw_m8 121 rfl) rfl
theorem q1920 : (Jvm.Cond.code ({ cls := "FairHouse", name := "count", desc := "(I)I" } : Jvm.MethodName) prog_1_method_9_code (2 : Nat) (Option.some Jvm.ClassFile.FieldType.int)) ∈ lw_all := lw_g (lw_at lw_m8 122 rfl) rfl
theorem q1926 : (Jvm.Cond.instanceMethod ({ cls := "FairHouse", name := "open", desc := "()V" } : Jvm.MethodName)) ∈ lw_all := lw_g (lw_at lw_m8 128 rfl) rfl
theorem q1927 : (Jvm.Cond.selects "FairHouse" ({ cls := "FairHouse", name := "open", desc := "()V" } : Jvm.MethodName) ({ cls := "FairHouse", name := "open", desc := "()V" } : Jvm.MethodName)) ∈ lw_all := lw_g (lw_at lw_m8 129 rfl) rfl
theorem q1928 : (Jvm.Cond.code ({ cls := "FairHouse", name := "open", desc := "()V" } : Jvm.MethodName) prog_1_method_36_code (1 : Nat) (Option.none : Option Jvm.ClassFile.FieldType)) ∈ lw_all := lw_g (lw_at lw_m8 130 rfl) rfl
theorem q1929 : (Jvm.Cond.methodLink "FairHouse" (236 : Nat) ({ cls := "FairHouse", name := "isFair", desc := "()V" } : Jvm.MethodName)) ∈ lw_all := lw_g (lw_at lw_m8 131 rfl) rfl
theorem q1930 : (Jvm.Cond.privateMethod ({ cls := "FairHouse", name := "isFair", desc := "()V" } : Jvm.MethodName)) ∈ lw_tbl := lw_at lw_m8 132 rfl
theorem q1931 : (Jvm.Cond.instanceMethod ({ cls := "FairHouse", name := "isFair", desc := "()V" } : Jvm.MethodName)) ∈ lw_all := lw_g (lw_at lw_m8 133 rfl) rfl
theorem q1932 : (Jvm.Cond.code ({ cls := "FairHouse", name := "isFair", desc := "()V" } : Jvm.MethodName) prog_1_method_12_code (1 : Nat) (Option.none : Option Jvm.ClassFile.FieldType)) ∈ lw_all := lw_g (lw_at lw_m8 134 rfl) rfl
theorem q1933 : (Jvm.Cond.classLink "FairHouse" (124 : Nat) "java/lang/IllegalStateException") ∈ lw_all := lw_g (lw_at lw_m8 135 rfl) rfl
theorem q1942 : (Jvm.Cond.methodLink "FairHouse" (126 : Nat) ({ cls := "java/lang/IllegalStateException", name := "<init>", desc := "()V" } : Jvm.MethodName)) ∈ lw_all := lw_g (lw_at lw_m8 144 rfl) rfl
theorem q1952 : (Jvm.Cond.instanceMethod ({ cls := "FairHouse", name := "come", desc := "(II)I" } : Jvm.MethodName)) ∈ lw_all := lw_g (lw_at lw_m8 154 rfl) rfl
theorem q1953 : (Jvm.Cond.selects "FairHouse" ({ cls := "FairHouse", name := "come", desc := "(II)I" } : Jvm.MethodName) ({ cls := "FairHouse", name := "come", desc := "(II)I" } : Jvm.MethodName)) ∈ lw_all := lw_g (lw_at lw_m8 155 rfl) rfl
theorem q1954 : (Jvm.Cond.code ({ cls := "FairHouse", name := "come", desc := "(II)I" } : Jvm.MethodName) prog_1_method_37_code (5 : Nat) (Option.some Jvm.ClassFile.FieldType.int)) ∈ lw_all := lw_g (lw_at lw_m8 156 rfl) rfl
theorem q1955 : (Jvm.Cond.methodLink "FairHouse" (418 : Nat) ({ cls := "FairHouse", name := "rideAt", desc := "(I)LFairHouse$Ride;" } : Jvm.MethodName)) ∈ lw_all := lw_g (lw_at lw_m8 157 rfl) rfl
theorem q1956 : (Jvm.Cond.privateMethod ({ cls := "FairHouse", name := "rideAt", desc := "(I)LFairHouse$Ride;" } : Jvm.MethodName)) ∈ lw_tbl := lw_at lw_m8 158 rfl
theorem q1957 : (Jvm.Cond.instanceMethod ({ cls := "FairHouse", name := "rideAt", desc := "(I)LFairHouse$Ride;" } : Jvm.MethodName)) ∈ lw_all := lw_g (lw_at lw_m8 159 rfl) rfl
theorem q1958 : (Jvm.Cond.code ({ cls := "FairHouse", name := "rideAt", desc := "(I)LFairHouse$Ride;" } : Jvm.MethodName) prog_1_method_13_code (2 : Nat) (Option.some (Jvm.ClassFile.FieldType.object "FairHouse$Ride"))) ∈ lw_all := lw_g (lw_at lw_m8 160 rfl) rfl
theorem q1959 : (Jvm.Cond.methodLink "FairHouse" (239 : Nat) ({ cls := "FairHouse", name := "need", desc := "(Z)V" } : Jvm.MethodName)) ∈ lw_all := lw_g (lw_at lw_m8 161 rfl) rfl
theorem q1960 : (Jvm.Cond.static ({ cls := "FairHouse", name := "need", desc := "(Z)V" } : Jvm.MethodName)) ∈ lw_all := lw_g (lw_at lw_m8 162 rfl) rfl
theorem q1961 : (Jvm.Cond.code ({ cls := "FairHouse", name := "need", desc := "(Z)V" } : Jvm.MethodName) prog_1_method_11_code (1 : Nat) (Option.none : Option Jvm.ClassFile.FieldType)) ∈ lw_all := lw_g (lw_at lw_m8 163 rfl) rfl
theorem q1962 : (Jvm.Cond.methodLink "FairHouse" (422 : Nat) ({ cls := "FairHouse$Bench", name := "come", desc := "(II)Z" } : Jvm.MethodName)) ∈ lw_all := lw_g (lw_at lw_m8 164 rfl) rfl
theorem q1970 : (Jvm.Cond.instanceMethod ({ cls := "FairHouse", name := "wind", desc := "(I)I" } : Jvm.MethodName)) ∈ lw_all := lw_g (lw_at lw_m8 172 rfl) rfl
theorem q1971 : (Jvm.Cond.selects "FairHouse" ({ cls := "FairHouse", name := "wind", desc := "(I)I" } : Jvm.MethodName) ({ cls := "FairHouse", name := "wind", desc := "(I)I" } : Jvm.MethodName)) ∈ lw_all := lw_g (lw_at lw_m8 173 rfl) rfl
theorem q1972 : (Jvm.Cond.code ({ cls := "FairHouse", name := "wind", desc := "(I)I" } : Jvm.MethodName) prog_1_method_38_code (3 : Nat) (Option.some Jvm.ClassFile.FieldType.int)) ∈ lw_all := lw_g (lw_at lw_m8 174 rfl) rfl
theorem q1977 : (Jvm.Cond.instanceMethod ({ cls := "FairHouse", name := "tick", desc := "(I)I" } : Jvm.MethodName)) ∈ lw_all := lw_g (lw_at lw_m8 179 rfl) rfl
theorem q1978 : (Jvm.Cond.selects "FairHouse" ({ cls := "FairHouse", name := "tick", desc := "(I)I" } : Jvm.MethodName) ({ cls := "FairHouse", name := "tick", desc := "(I)I" } : Jvm.MethodName)) ∈ lw_all := lw_g (lw_at lw_m8 180 rfl) rfl
theorem q1979 : (Jvm.Cond.code ({ cls := "FairHouse", name := "tick", desc := "(I)I" } : Jvm.MethodName) prog_1_method_21_code (4 : Nat) (Option.some Jvm.ClassFile.FieldType.int)) ∈ lw_all := lw_g (lw_at lw_m8 181 rfl) rfl
theorem q1980 : (Jvm.Cond.methodLink "FairHouse" (242 : Nat) ({ cls := "FairHouse", name := "once", desc := "()V" } : Jvm.MethodName)) ∈ lw_all := lw_g (lw_at lw_m8 182 rfl) rfl
theorem q1981 : (Jvm.Cond.privateMethod ({ cls := "FairHouse", name := "once", desc := "()V" } : Jvm.MethodName)) ∈ lw_tbl := lw_at lw_m8 183 rfl
theorem q1982 : (Jvm.Cond.instanceMethod ({ cls := "FairHouse", name := "once", desc := "()V" } : Jvm.MethodName)) ∈ lw_all := lw_g (lw_at lw_m8 184 rfl) rfl
theorem q1983 : (Jvm.Cond.code ({ cls := "FairHouse", name := "once", desc := "()V" } : Jvm.MethodName) prog_1_method_22_code (5 : Nat) (Option.none : Option Jvm.ClassFile.FieldType)) ∈ lw_all := lw_g (lw_at lw_m8 185 rfl) rfl
theorem q1984 : (Jvm.Cond.methodLink "FairHouse" (245 : Nat) ({ cls := "FairHouse$Bench", name := "tire", desc := "(I)I" } : Jvm.MethodName)) ∈ lw_all := lw_g (lw_at lw_m8 186 rfl) rfl
theorem q1992 : (Jvm.Cond.methodLink "FairHouse" (249 : Nat) ({ cls := "FairHouse", name := "tell", desc := "(III)V" } : Jvm.MethodName)) ∈ lw_all := lw_g (lw_at lw_m8 194 rfl) rfl
theorem q1993 : (Jvm.Cond.privateMethod ({ cls := "FairHouse", name := "tell", desc := "(III)V" } : Jvm.MethodName)) ∈ lw_tbl := lw_at lw_m8 195 rfl
theorem q1994 : (Jvm.Cond.instanceMethod ({ cls := "FairHouse", name := "tell", desc := "(III)V" } : Jvm.MethodName)) ∈ lw_all := lw_g (lw_at lw_m8 196 rfl) rfl
theorem q1995 : (Jvm.Cond.code ({ cls := "FairHouse", name := "tell", desc := "(III)V" } : Jvm.MethodName) prog_1_method_20_code (4 : Nat) (Option.none : Option Jvm.ClassFile.FieldType)) ∈ lw_all := lw_g (lw_at lw_m8 197 rfl) rfl
theorem q1996 : (Jvm.Cond.methodLink "FairHouse" (253 : Nat) ({ cls := "FairHouse", name := "goesOn", desc := "(ILFairHouse$Ride;)V" } : Jvm.MethodName)) ∈ lw_all := lw_g (lw_at lw_m8 198 rfl) rfl
theorem q1997 : (Jvm.Cond.privateMethod ({ cls := "FairHouse", name := "goesOn", desc := "(ILFairHouse$Ride;)V" } : Jvm.MethodName)) ∈ lw_tbl := lw_at lw_m8 199 rfl
theorem q1998 : (Jvm.Cond.instanceMethod ({ cls := "FairHouse", name := "goesOn", desc := "(ILFairHouse$Ride;)V" } : Jvm.MethodName)) ∈ lw_all := lw_g (lw_at lw_m8 200 rfl) rfl
theorem q1999 : (Jvm.Cond.code ({ cls := "FairHouse", name := "goesOn", desc := "(ILFairHouse$Ride;)V" } : Jvm.MethodName) prog_1_method_26_code (7 : Nat) (Option.none : Option Jvm.ClassFile.FieldType)) ∈ lw_all := lw_g (lw_at lw_m8 201 rfl) rfl
theorem q2000 : (Jvm.Cond.methodLink "FairHouse" (315 : Nat) ({ cls := "FairHouse$Script", name := "now", desc := "()LFairHouse$Act;" } : Jvm.MethodName)) ∈ lw_all := lw_g (lw_at lw_m8 202 rfl) rfl
theorem q2006 : (Jvm.Cond.methodLink "FairHouse" (308 : Nat) ({ cls := "FairHouse", name := "settle", desc := "(ILFairHouse$Script;)V" } : Jvm.MethodName)) ∈ lw_all := lw_g (lw_at lw_m8 208 rfl) rfl
theorem q2007 : (Jvm.Cond.privateMethod ({ cls := "FairHouse", name := "settle", desc := "(ILFairHouse$Script;)V" } : Jvm.MethodName)) ∈ lw_tbl := lw_at lw_m8 209 rfl
theorem q2008 : (Jvm.Cond.instanceMethod ({ cls := "FairHouse", name := "settle", desc := "(ILFairHouse$Script;)V" } : Jvm.MethodName)) ∈ lw_all := lw_g (lw_at lw_m8 210 rfl) rfl
theorem q2009 : (Jvm.Cond.code ({ cls := "FairHouse", name := "settle", desc := "(ILFairHouse$Script;)V" } : Jvm.MethodName) prog_1_method_25_code (3 : Nat) (Option.none : Option Jvm.ClassFile.FieldType)) ∈ lw_all := lw_g (lw_at lw_m8 211 rfl) rfl
theorem q2010 : (Jvm.Cond.methodLink "FairHouse" (312 : Nat) ({ cls := "FairHouse$Script", name := "settles", desc := "()Z" } : Jvm.MethodName)) ∈ lw_all := lw_g (lw_at lw_m8 212 rfl) rfl
theorem q2015 : (Jvm.Cond.methodLink "FairHouse" (330 : Nat) ({ cls := "FairHouse", name := "does", desc := "(ILFairHouse$Ride;LFairHouse$Script;LFairHouse$Act;)Z" } : Jvm.MethodName)) ∈ lw_all := lw_g (lw_at lw_m8 217 rfl) rfl
theorem q2016 : (Jvm.Cond.privateMethod ({ cls := "FairHouse", name := "does", desc := "(ILFairHouse$Ride;LFairHouse$Script;LFairHouse$Act;)Z" } : Jvm.MethodName)) ∈ lw_tbl := lw_at lw_m8 218 rfl
theorem q2017 : (Jvm.Cond.instanceMethod ({ cls := "FairHouse", name := "does", desc := "(ILFairHouse$Ride;LFairHouse$Script;LFairHouse$Act;)Z" } : Jvm.MethodName)) ∈ lw_all := lw_g (lw_at lw_m8 219 rfl) rfl
theorem q2018 : (Jvm.Cond.code ({ cls := "FairHouse", name := "does", desc := "(ILFairHouse$Ride;LFairHouse$Script;LFairHouse$Act;)Z" } : Jvm.MethodName) prog_1_method_28_code (6 : Nat) (Option.some Jvm.ClassFile.FieldType.boolean)) ∈ lw_all := lw_g (lw_at lw_m8 220 rfl) rfl
theorem q2019 : (Jvm.Cond.methodLink "FairHouse" (341 : Nat) ({ cls := "FairHouse$Expr", name := "of", desc := "(LFairHouse;LFairHouse$Ride;)I" } : Jvm.MethodName)) ∈ lw_all := lw_g (lw_at lw_m8 221 rfl) rfl
theorem q2036 : (Jvm.Cond.static ({ cls := "FairHouse", name := "measured", desc := "(LFairHouse$Ride;I)I" } : Jvm.MethodName)) ∈ lw_all := lw_g (lw_at lw_m8 238 rfl) rfl
theorem q2037 : (Jvm.Cond.code ({ cls := "FairHouse", name := "measured", desc := "(LFairHouse$Ride;I)I" } : Jvm.MethodName) prog_1_method_19_code (3 : Nat) (Option.some Jvm.ClassFile.FieldType.int)) ∈ lw_all := lw_g (lw_at lw_m8 239 rfl) rfl
theorem q2047 : (Jvm.Cond.methodLink "FairHouse" (347 : Nat) ({ cls := "FairHouse", name := "aims", desc := "(ILFairHouse$Ride;LFairHouse$Script;ZI)Z" } : Jvm.MethodName)) ∈ lw_all := lw_g (lw_at lw_m9 9 rfl) rfl
theorem q2048 : (Jvm.Cond.privateMethod ({ cls := "FairHouse", name := "aims", desc := "(ILFairHouse$Ride;LFairHouse$Script;ZI)Z" } : Jvm.MethodName)) ∈ lw_tbl := lw_at lw_m9 10 rfl
theorem q2049 : (Jvm.Cond.instanceMethod ({ cls := "FairHouse", name := "aims", desc := "(ILFairHouse$Ride;LFairHouse$Script;ZI)Z" } : Jvm.MethodName)) ∈ lw_all := lw_g (lw_at lw_m9 11 rfl) rfl
theorem q2050 : (Jvm.Cond.code ({ cls := "FairHouse", name := "aims", desc := "(ILFairHouse$Ride;LFairHouse$Script;ZI)Z" } : Jvm.MethodName) prog_1_method_31_code (7 : Nat) (Option.some Jvm.ClassFile.FieldType.boolean)) ∈ lw_all := lw_g (lw_at lw_m9 12 rfl) rfl
theorem q2051 : (Jvm.Cond.methodLink "FairHouse" (372 : Nat) ({ cls := "FairHouse", name := "done", desc := "(ILFairHouse$Script;)Z" } : Jvm.MethodName)) ∈ lw_all := lw_g (lw_at lw_m9 13 rfl) rfl
theorem q2052 : (Jvm.Cond.privateMethod ({ cls := "FairHouse", name := "done", desc := "(ILFairHouse$Script;)Z" } : Jvm.MethodName)) ∈ lw_tbl := lw_at lw_m9 14 rfl
theorem q2053 : (Jvm.Cond.instanceMethod ({ cls := "FairHouse", name := "done", desc := "(ILFairHouse$Script;)Z" } : Jvm.MethodName)) ∈ lw_all := lw_g (lw_at lw_m9 15 rfl) rfl
theorem q2054 : (Jvm.Cond.code ({ cls := "FairHouse", name := "done", desc := "(ILFairHouse$Script;)Z" } : Jvm.MethodName) prog_1_method_27_code (3 : Nat) (Option.some Jvm.ClassFile.FieldType.boolean)) ∈ lw_all := lw_g (lw_at lw_m9 16 rfl) rfl
theorem q2055 : (Jvm.Cond.methodLink "FairHouse" (351 : Nat) ({ cls := "FairHouse", name := "shines", desc := "(ILFairHouse$Ride;LFairHouse$Script;ZI)Z" } : Jvm.MethodName)) ∈ lw_all := lw_g (lw_at lw_m9 17 rfl) rfl
theorem q2056 : (Jvm.Cond.privateMethod ({ cls := "FairHouse", name := "shines", desc := "(ILFairHouse$Ride;LFairHouse$Script;ZI)Z" } : Jvm.MethodName)) ∈ lw_tbl := lw_at lw_m9 18 rfl
theorem q2057 : (Jvm.Cond.instanceMethod ({ cls := "FairHouse", name := "shines", desc := "(ILFairHouse$Ride;LFairHouse$Script;ZI)Z" } : Jvm.MethodName)) ∈ lw_all := lw_g (lw_at lw_m9 19 rfl) rfl
theorem q2058 : (Jvm.Cond.code ({ cls := "FairHouse", name := "shines", desc := "(ILFairHouse$Ride;LFairHouse$Script;ZI)Z" } : Jvm.MethodName) prog_1_method_32_code (7 : Nat) (Option.some Jvm.ClassFile.FieldType.boolean)) ∈ lw_all := lw_g (lw_at lw_m9 20 rfl) rfl
theorem q2059 : (Jvm.Cond.methodLink "FairHouse" (354 : Nat) ({ cls := "FairHouse", name := "lasts", desc := "(ILFairHouse$Ride;LFairHouse$Script;II)Z" } : Jvm.MethodName)) ∈ lw_all := lw_g (lw_at lw_m9 21 rfl) rfl
theorem q2060 : (Jvm.Cond.privateMethod ({ cls := "FairHouse", name := "lasts", desc := "(ILFairHouse$Ride;LFairHouse$Script;II)Z" } : Jvm.MethodName)) ∈ lw_tbl := lw_at lw_m9 22 rfl
theorem q2061 : (Jvm.Cond.instanceMethod ({ cls := "FairHouse", name := "lasts", desc := "(ILFairHouse$Ride;LFairHouse$Script;II)Z" } : Jvm.MethodName)) ∈ lw_all := lw_g (lw_at lw_m9 23 rfl) rfl
theorem q2062 : (Jvm.Cond.code ({ cls := "FairHouse", name := "lasts", desc := "(ILFairHouse$Ride;LFairHouse$Script;II)Z" } : Jvm.MethodName) prog_1_method_33_code (8 : Nat) (Option.some Jvm.ClassFile.FieldType.boolean)) ∈ lw_all := lw_g (lw_at lw_m9 24 rfl) rfl
theorem q2063 : (Jvm.Cond.interfaceEntry "FairHouse" (406 : Nat)) ∈ lw_tbl := lw_at lw_m9 25 rfl
theorem q2064 : (Jvm.Cond.methodLink "FairHouse" (406 : Nat) ({ cls := "FairHouse$Machine", name := "isCalm", desc := "()Z" } : Jvm.MethodName)) ∈ lw_all := lw_g (lw_at lw_m9 26 rfl) rfl
theorem q2168 : (Jvm.Cond.methodLink "FairHouse" (412 : Nat) ({ cls := "java/lang/Math", name := "max", desc := "(II)I" } : Jvm.MethodName)) ∈ lw_all := lw_g (lw_at lw_m9 130 rfl) rfl
theorem q2169 : (Jvm.Cond.interfaceEntry "FairHouse" (415 : Nat)) ∈ lw_tbl := lw_at lw_m9 131 rfl
theorem q2170 : (Jvm.Cond.methodLink "FairHouse" (415 : Nat) ({ cls := "FairHouse$Seats", name := "board", desc := "(I)I" } : Jvm.MethodName)) ∈ lw_all := lw_g (lw_at lw_m9 132 rfl) rfl
theorem q2188 : (Jvm.Cond.methodLink "FairHouse" (358 : Nat) ({ cls := "FairHouse", name := "unloads", desc := "(ILFairHouse$Ride;LFairHouse$Script;)Z" } : Jvm.MethodName)) ∈ lw_all := lw_g (lw_at lw_m9 150 rfl) rfl
theorem q2189 : (Jvm.Cond.privateMethod ({ cls := "FairHouse", name := "unloads", desc := "(ILFairHouse$Ride;LFairHouse$Script;)Z" } : Jvm.MethodName)) ∈ lw_tbl := lw_at lw_m9 151 rfl
theorem q2190 : (Jvm.Cond.instanceMethod ({ cls := "FairHouse", name := "unloads", desc := "(ILFairHouse$Ride;LFairHouse$Script;)Z" } : Jvm.MethodName)) ∈ lw_all := lw_g (lw_at lw_m9 152 rfl) rfl
theorem q2191 : (Jvm.Cond.code ({ cls := "FairHouse", name := "unloads", desc := "(ILFairHouse$Ride;LFairHouse$Script;)Z" } : Jvm.MethodName) prog_1_method_34_code (7 : Nat) (Option.some Jvm.ClassFile.FieldType.boolean)) ∈ lw_all := lw_g (lw_at lw_m9 153 rfl) rfl
theorem q2192 : (Jvm.Cond.methodLink "FairHouse" (366 : Nat) ({ cls := "FairHouse$Cond", name := "holds", desc := "(LFairHouse;LFairHouse$Ride;)Z" } : Jvm.MethodName)) ∈ lw_all := lw_g (lw_at lw_m9 154 rfl) rfl
theorem q2209 : (Jvm.Cond.methodLink "FairHouse" (379 : Nat) ({ cls := "FairHouse", name := "claims", desc := "(ILFairHouse$Script;I)Z" } : Jvm.MethodName)) ∈ lw_all := lw_g (lw_at lw_m9 171 rfl) rfl
theorem q2210 : (Jvm.Cond.privateMethod ({ cls := "FairHouse", name := "claims", desc := "(ILFairHouse$Script;I)Z" } : Jvm.MethodName)) ∈ lw_tbl := lw_at lw_m9 172 rfl
theorem q2211 : (Jvm.Cond.instanceMethod ({ cls := "FairHouse", name := "claims", desc := "(ILFairHouse$Script;I)Z" } : Jvm.MethodName)) ∈ lw_all := lw_g (lw_at lw_m9 173 rfl) rfl
theorem q2212 : (Jvm.Cond.code ({ cls := "FairHouse", name := "claims", desc := "(ILFairHouse$Script;I)Z" } : Jvm.MethodName) prog_1_method_35_code (4 : Nat) (Option.some Jvm.ClassFile.FieldType.boolean)) ∈ lw_all := lw_g (lw_at lw_m9 174 rfl) rfl
theorem q2213 : (Jvm.Cond.methodLink "FairHouse" (386 : Nat) ({ cls := "FairHouse", name := "turns", desc := "(ILFairHouse$Ride;LFairHouse$Script;LFairHouse$Act;I)Z" } : Jvm.MethodName)) ∈ lw_all := lw_g (lw_at lw_m9 175 rfl) rfl
theorem q2214 : (Jvm.Cond.privateMethod ({ cls := "FairHouse", name := "turns", desc := "(ILFairHouse$Ride;LFairHouse$Script;LFairHouse$Act;I)Z" } : Jvm.MethodName)) ∈ lw_tbl := lw_at lw_m9 176 rfl
theorem q2215 : (Jvm.Cond.instanceMethod ({ cls := "FairHouse", name := "turns", desc := "(ILFairHouse$Ride;LFairHouse$Script;LFairHouse$Act;I)Z" } : Jvm.MethodName)) ∈ lw_all := lw_g (lw_at lw_m9 177 rfl) rfl
theorem q2216 : (Jvm.Cond.code ({ cls := "FairHouse", name := "turns", desc := "(ILFairHouse$Ride;LFairHouse$Script;LFairHouse$Act;I)Z" } : Jvm.MethodName) prog_1_method_29_code (7 : Nat) (Option.some Jvm.ClassFile.FieldType.boolean)) ∈ lw_all := lw_g (lw_at lw_m9 178 rfl) rfl
theorem q2217 : (Jvm.Cond.methodLink "FairHouse" (393 : Nat) ({ cls := "FairHouse", name := "enter", desc := "(LFairHouse$Script;ZII)V" } : Jvm.MethodName)) ∈ lw_all := lw_g (lw_at lw_m9 179 rfl) rfl
theorem q2218 : (Jvm.Cond.static ({ cls := "FairHouse", name := "enter", desc := "(LFairHouse$Script;ZII)V" } : Jvm.MethodName)) ∈ lw_all := lw_g (lw_at lw_m9 180 rfl) rfl
theorem q2219 : (Jvm.Cond.code ({ cls := "FairHouse", name := "enter", desc := "(LFairHouse$Script;ZII)V" } : Jvm.MethodName) prog_1_method_30_code (4 : Nat) (Option.none : Option Jvm.ClassFile.FieldType)) ∈ lw_all := lw_g (lw_at lw_m9 181 rfl) rfl
theorem q2220 : (Jvm.Cond.methodLink "FairHouse" (403 : Nat) ({ cls := "FairHouse$Script", name := "enter", desc := "(ZII)V" } : Jvm.MethodName)) ∈ lw_all := lw_g (lw_at lw_m9 182 rfl) rfl
theorem q2224 : (Jvm.Cond.methodLink "FairHouse" (397 : Nat) ({ cls := "FairHouse$Script", name := "leave", desc := "()V" } : Jvm.MethodName)) ∈ lw_all := lw_g (lw_at lw_m9 186 rfl) rfl
theorem q2228 : (Jvm.Cond.methodLink "FairHouse" (400 : Nat) ({ cls := "FairHouse$Script", name := "again", desc := "()V" } : Jvm.MethodName)) ∈ lw_all := lw_g (lw_at lw_m9 190 rfl) rfl
theorem q2232 : (Jvm.Cond.methodLink "FairHouse" (275 : Nat) ({ cls := "FairHouse", name := "stalls", desc := "(ILFairHouse$Ride;I)V" } : Jvm.MethodName)) ∈ lw_all := lw_g (lw_at lw_m9 194 rfl) rfl
theorem q2233 : (Jvm.Cond.privateMethod ({ cls := "FairHouse", name := "stalls", desc := "(ILFairHouse$Ride;I)V" } : Jvm.MethodName)) ∈ lw_tbl := lw_at lw_m9 195 rfl
theorem q2234 : (Jvm.Cond.instanceMethod ({ cls := "FairHouse", name := "stalls", desc := "(ILFairHouse$Ride;I)V" } : Jvm.MethodName)) ∈ lw_all := lw_g (lw_at lw_m9 196 rfl) rfl
theorem q2235 : (Jvm.Cond.code ({ cls := "FairHouse", name := "stalls", desc := "(ILFairHouse$Ride;I)V" } : Jvm.MethodName) prog_1_method_24_code (6 : Nat) (Option.none : Option Jvm.ClassFile.FieldType)) ∈ lw_all := lw_g (lw_at lw_m9 197 rfl) rfl
theorem q2236 : (Jvm.Cond.methodLink "FairHouse" (298 : Nat) ({ cls := "FairHouse$Script", name := "falls", desc := "()Z" } : Jvm.MethodName)) ∈ lw_all := lw_g (lw_at lw_m9 198 rfl) rfl
theorem q2240 : (Jvm.Cond.classLink "FairHouse" (257 : Nat) "FairHouse$Machine") ∈ lw_all := lw_g (lw_at lw_m9 202 rfl) rfl
theorem q2241 : (Jvm.Cond.interfaceEntry "FairHouse" (259 : Nat)) ∈ lw_tbl := lw_at lw_m9 203 rfl
theorem q2242 : (Jvm.Cond.methodLink "FairHouse" (259 : Nat) ({ cls := "FairHouse$Machine", name := "ease", desc := "()V" } : Jvm.MethodName)) ∈ lw_all := lw_g (lw_at lw_m9 204 rfl) rfl
theorem q2344 : (Jvm.Cond.methodLink "FairHouse" (262 : Nat) ({ cls := "FairHouse", name := "shed", desc := "(I)V" } : Jvm.MethodName)) ∈ lw_all := lw_g (lw_at lw_m10 66 rfl) rfl
theorem q2345 : (Jvm.Cond.privateMethod ({ cls := "FairHouse", name := "shed", desc := "(I)V" } : Jvm.MethodName)) ∈ lw_tbl := lw_at lw_m10 67 rfl
theorem q2346 : (Jvm.Cond.instanceMethod ({ cls := "FairHouse", name := "shed", desc := "(I)V" } : Jvm.MethodName)) ∈ lw_all := lw_g (lw_at lw_m10 68 rfl) rfl
theorem q2347 : (Jvm.Cond.code ({ cls := "FairHouse", name := "shed", desc := "(I)V" } : Jvm.MethodName) prog_1_method_23_code (7 : Nat) (Option.none : Option Jvm.ClassFile.FieldType)) ∈ lw_all := lw_g (lw_at lw_m10 69 rfl) rfl
theorem q2348 : (Jvm.Cond.interfaceEntry "FairHouse" (288 : Nat)) ∈ lw_tbl := lw_at lw_m10 70 rfl
theorem q2349 : (Jvm.Cond.methodLink "FairHouse" (288 : Nat) ({ cls := "FairHouse$Machine", name := "draw", desc := "()I" } : Jvm.MethodName)) ∈ lw_all := lw_g (lw_at lw_m10 71 rfl) rfl
theorem q2471 : (Jvm.Cond.methodLink "FairHouse" (268 : Nat) ({ cls := "FairHouse", name := "hasGoal", desc := "(LFairHouse$Ride;)Z" } : Jvm.MethodName)) ∈ lw_all := lw_g (lw_at lw_m10 193 rfl) rfl
theorem q2472 : (Jvm.Cond.static ({ cls := "FairHouse", name := "hasGoal", desc := "(LFairHouse$Ride;)Z" } : Jvm.MethodName)) ∈ lw_all := lw_g (lw_at lw_m10 194 rfl) rfl
theorem q2473 : (Jvm.Cond.code ({ cls := "FairHouse", name := "hasGoal", desc := "(LFairHouse$Ride;)Z" } : Jvm.MethodName) prog_1_method_17_code (3 : Nat) (Option.some Jvm.ClassFile.FieldType.boolean)) ∈ lw_all := lw_g (lw_at lw_m10 195 rfl) rfl
theorem q2474 : (Jvm.Cond.methodLink "FairHouse" (291 : Nat) ({ cls := "FairHouse", name := "isBright", desc := "(LFairHouse$Ride;)Z" } : Jvm.MethodName)) ∈ lw_all := lw_g (lw_at lw_m10 196 rfl) rfl
theorem q2475 : (Jvm.Cond.static ({ cls := "FairHouse", name := "isBright", desc := "(LFairHouse$Ride;)Z" } : Jvm.MethodName)) ∈ lw_all := lw_g (lw_at lw_m10 197 rfl) rfl
theorem q2476 : (Jvm.Cond.code ({ cls := "FairHouse", name := "isBright", desc := "(LFairHouse$Ride;)Z" } : Jvm.MethodName) prog_1_method_18_code (3 : Nat) (Option.some Jvm.ClassFile.FieldType.boolean)) ∈ lw_all := lw_g (lw_at lw_m10 198 rfl) rfl
theorem q2477 : (Jvm.Cond.interfaceEntry "FairHouse" (265 : Nat)) ∈ lw_tbl := lw_at lw_m10 199 rfl
theorem q2478 : (Jvm.Cond.methodLink "FairHouse" (265 : Nat) ({ cls := "FairHouse$Machine", name := "limit", desc := "()I" } : Jvm.MethodName)) ∈ lw_all := lw_g (lw_at lw_m10 200 rfl) rfl
theorem q2509 : (Jvm.Cond.interfaceEntry "FairHouse" (279 : Nat)) ∈ lw_tbl := lw_at lw_m10 231 rfl
theorem q2510 : (Jvm.Cond.methodLink "FairHouse" (279 : Nat) ({ cls := "FairHouse$Machine", name := "tear", desc := "()I" } : Jvm.MethodName)) ∈ lw_all := lw_g (lw_at lw_m10 232 rfl) rfl
theorem q2563 : (Jvm.Cond.methodLink "FairHouse" (282 : Nat) ({ cls := "java/lang/Math", name := "min", desc := "(II)I" } : Jvm.MethodName)) ∈ lw_all := lw_g (lw_at lw_m11 45 rfl) rfl
theorem q2568 : (Jvm.Cond.instanceMethod ({ cls := "FairHouse", name := "measure", desc := "(II)I" } : Jvm.MethodName)) ∈ lw_all := lw_g (lw_at lw_m11 50 rfl) rfl
theorem q2569 : (Jvm.Cond.selects "FairHouse" ({ cls := "FairHouse", name := "measure", desc := "(II)I" } : Jvm.MethodName) ({ cls := "FairHouse", name := "measure", desc := "(II)I" } : Jvm.MethodName)) ∈ lw_all := lw_g (lw_at lw_m11 51 rfl) rfl
theorem q2570 : (Jvm.Cond.code ({ cls := "FairHouse", name := "measure", desc := "(II)I" } : Jvm.MethodName) prog_1_method_39_code (5 : Nat) (Option.some Jvm.ClassFile.FieldType.int)) ∈ lw_all := lw_g (lw_at lw_m11 52 rfl) rfl
theorem q2571 : (Jvm.Cond.methodLink "FairHouse" (427 : Nat) ({ cls := "FairHouse", name := "measured", desc := "(LFairHouse$Ride;I)I" } : Jvm.MethodName)) ∈ lw_all := lw_g (lw_at lw_m11 53 rfl) rfl
theorem q2576 : (Jvm.Cond.instanceMethod ({ cls := "FairHouse", name := "says", desc := "(II)I" } : Jvm.MethodName)) ∈ lw_all := lw_g (lw_at lw_m11 58 rfl) rfl
theorem q2577 : (Jvm.Cond.selects "FairHouse" ({ cls := "FairHouse", name := "says", desc := "(II)I" } : Jvm.MethodName) ({ cls := "FairHouse", name := "says", desc := "(II)I" } : Jvm.MethodName)) ∈ lw_all := lw_g (lw_at lw_m11 59 rfl) rfl
theorem q2578 : (Jvm.Cond.code ({ cls := "FairHouse", name := "says", desc := "(II)I" } : Jvm.MethodName) prog_1_method_40_code (4 : Nat) (Option.some Jvm.ClassFile.FieldType.int)) ∈ lw_all := lw_g (lw_at lw_m11 60 rfl) rfl
theorem q2579 : (Jvm.Cond.interfaceEntry "FairHouse" (434 : Nat)) ∈ lw_tbl := lw_at lw_m11 61 rfl
theorem q2580 : (Jvm.Cond.methodLink "FairHouse" (434 : Nat) ({ cls := "FairHouse$Machine", name := "noise", desc := "()I" } : Jvm.MethodName)) ∈ lw_all := lw_g (lw_at lw_m11 62 rfl) rfl
theorem q2665 : (Jvm.Cond.instanceMethod ({ cls := "FairHouse", name := "script", desc := "(II)I" } : Jvm.MethodName)) ∈ lw_all := lw_g (lw_at lw_m11 147 rfl) rfl
theorem q2666 : (Jvm.Cond.selects "FairHouse" ({ cls := "FairHouse", name := "script", desc := "(II)I" } : Jvm.MethodName) ({ cls := "FairHouse", name := "script", desc := "(II)I" } : Jvm.MethodName)) ∈ lw_all := lw_g (lw_at lw_m11 148 rfl) rfl
theorem q2667 : (Jvm.Cond.code ({ cls := "FairHouse", name := "script", desc := "(II)I" } : Jvm.MethodName) prog_1_method_41_code (4 : Nat) (Option.some Jvm.ClassFile.FieldType.int)) ∈ lw_all := lw_g (lw_at lw_m11 149 rfl) rfl
theorem q2668 : (Jvm.Cond.methodLink "FairHouse" (437 : Nat) ({ cls := "FairHouse$Script", name := "place", desc := "()I" } : Jvm.MethodName)) ∈ lw_all := lw_g (lw_at lw_m11 150 rfl) rfl
theorem q2676 : (Jvm.Cond.instanceMethod ({ cls := "FairHouse", name := "free", desc := "(I)I" } : Jvm.MethodName)) ∈ lw_all := lw_g (lw_at lw_m11 158 rfl) rfl
theorem q2677 : (Jvm.Cond.selects "FairHouse" ({ cls := "FairHouse", name := "free", desc := "(I)I" } : Jvm.MethodName) ({ cls := "FairHouse", name := "free", desc := "(I)I" } : Jvm.MethodName)) ∈ lw_all := lw_g (lw_at lw_m11 159 rfl) rfl
theorem q2678 : (Jvm.Cond.code ({ cls := "FairHouse", name := "free", desc := "(I)I" } : Jvm.MethodName) prog_1_method_42_code (2 : Nat) (Option.some Jvm.ClassFile.FieldType.int)) ∈ lw_all := lw_g (lw_at lw_m11 160 rfl) rfl
theorem q2683 : (Jvm.Cond.instanceMethod ({ cls := "FairHouse", name := "isUp", desc := "(I)Z" } : Jvm.MethodName)) ∈ lw_all := lw_g (lw_at lw_m11 165 rfl) rfl
theorem q2684 : (Jvm.Cond.selects "FairHouse" ({ cls := "FairHouse", name := "isUp", desc := "(I)Z" } : Jvm.MethodName) ({ cls := "FairHouse", name := "isUp", desc := "(I)Z" } : Jvm.MethodName)) ∈ lw_all := lw_g (lw_at lw_m11 166 rfl) rfl
theorem q2685 : (Jvm.Cond.code ({ cls := "FairHouse", name := "isUp", desc := "(I)Z" } : Jvm.MethodName) prog_1_method_43_code (2 : Nat) (Option.some Jvm.ClassFile.FieldType.boolean)) ∈ lw_all := lw_g (lw_at lw_m11 167 rfl) rfl
theorem q2690 : (Jvm.Cond.instanceMethod ({ cls := "FairHouse", name := "set", desc := "(IZ)Z" } : Jvm.MethodName)) ∈ lw_all := lw_g (lw_at lw_m11 172 rfl) rfl
theorem q2691 : (Jvm.Cond.selects "FairHouse" ({ cls := "FairHouse", name := "set", desc := "(IZ)Z" } : Jvm.MethodName) ({ cls := "FairHouse", name := "set", desc := "(IZ)Z" } : Jvm.MethodName)) ∈ lw_all := lw_g (lw_at lw_m11 173 rfl) rfl
theorem q2692 : (Jvm.Cond.code ({ cls := "FairHouse", name := "set", desc := "(IZ)Z" } : Jvm.MethodName) prog_1_method_44_code (4 : Nat) (Option.some Jvm.ClassFile.FieldType.boolean)) ∈ lw_all := lw_g (lw_at lw_m11 174 rfl) rfl
theorem q2693 : (Jvm.Cond.methodLink "FairHouse" (439 : Nat) ({ cls := "FairHouse", name := "isUp", desc := "(I)Z" } : Jvm.MethodName)) ∈ lw_all := lw_g (lw_at lw_m11 175 rfl) rfl
theorem q2698 : (Jvm.Cond.instanceMethod ({ cls := "FairHouse", name := "total", desc := "(I)I" } : Jvm.MethodName)) ∈ lw_all := lw_g (lw_at lw_m11 180 rfl) rfl
theorem q2699 : (Jvm.Cond.selects "FairHouse" ({ cls := "FairHouse", name := "total", desc := "(I)I" } : Jvm.MethodName) ({ cls := "FairHouse", name := "total", desc := "(I)I" } : Jvm.MethodName)) ∈ lw_all := lw_g (lw_at lw_m11 181 rfl) rfl
theorem q2700 : (Jvm.Cond.code ({ cls := "FairHouse", name := "total", desc := "(I)I" } : Jvm.MethodName) prog_1_method_45_code (9 : Nat) (Option.some Jvm.ClassFile.FieldType.int)) ∈ lw_all := lw_g (lw_at lw_m11 182 rfl) rfl
theorem q2705 : (Jvm.Cond.instanceMethod ({ cls := "FairHouse", name := "log", desc := "(II)I" } : Jvm.MethodName)) ∈ lw_all := lw_g (lw_at lw_m11 187 rfl) rfl
theorem q2706 : (Jvm.Cond.selects "FairHouse" ({ cls := "FairHouse", name := "log", desc := "(II)I" } : Jvm.MethodName) ({ cls := "FairHouse", name := "log", desc := "(II)I" } : Jvm.MethodName)) ∈ lw_all := lw_g (lw_at lw_m11 188 rfl) rfl
theorem q2707 : (Jvm.Cond.code ({ cls := "FairHouse", name := "log", desc := "(II)I" } : Jvm.MethodName) prog_1_method_46_code (3 : Nat) (Option.some Jvm.ClassFile.FieldType.int)) ∈ lw_all := lw_g (lw_at lw_m11 189 rfl) rfl
theorem q3412 : (Jvm.Cond.castable "FairHouse" "java/lang/Object") ∈ lw_tbl := lw_at lw_m14 174 rfl
theorem q120 : (Jvm.Cond.initialized "FairHouseModel") ∈ lw_all := lw_g (lw_at lw_m1 2 rfl) rfl
theorem q973 : (Jvm.Cond.selects "FairHouseModel" ({ cls := "java/lang/Object", name := "getClass", desc := "()Ljava/lang/Class;" } : Jvm.MethodName) ({ cls := "java/lang/Object", name := "getClass", desc := "()Ljava/lang/Class;" } : Jvm.MethodName)) ∈ lw_all := lw_g (lw_at lw_m4 135 rfl) rfl
theorem q2709 : (Jvm.Cond.instantiable "FairHouseModel" (91 : Nat)) ∈ lw_all := lw_g (lw_at lw_m11 191 rfl) rfl
theorem q2711 : (Jvm.Cond.instanceMethod ({ cls := "FairHouseModel", name := "<init>", desc := "()V" } : Jvm.MethodName)) ∈ lw_all := lw_g (lw_at lw_m11 193 rfl) rfl
theorem q2712 : (Jvm.Cond.code ({ cls := "FairHouseModel", name := "<init>", desc := "()V" } : Jvm.MethodName) prog_42_method_1_code (1 : Nat) (Option.none : Option Jvm.ClassFile.FieldType)) ∈ lw_all := lw_g (lw_at lw_m11 194 rfl) rfl
theorem q2713 : (Jvm.Cond.methodLink "FairHouseModel" (1 : Nat) ({ cls := "java/lang/Object", name := "<init>", desc := "()V" } : Jvm.MethodName)) ∈ lw_all := lw_g (lw_at lw_m11 195 rfl) rfl
theorem q2714 : (Jvm.Cond.classLink "FairHouseModel" (7 : Nat) "java/lang/String") ∈ lw_all := lw_g (lw_at lw_m11 196 rfl) rfl
theorem q2716 : (Jvm.Cond.stringRef "FairHouseModel" (9 : Nat) "power") ∈ lw_tbl := lw_at lw_m11 198 rfl
theorem q2717 : (Jvm.Cond.stringRef "FairHouseModel" (11 : Nat) "staff") ∈ lw_tbl := lw_at lw_m11 199 rfl
theorem q2718 : (Jvm.Cond.stringRef "FairHouseModel" (13 : Nat) "flag") ∈ lw_tbl := lw_at lw_m11 200 rfl
theorem q2719 : (Jvm.Cond.stringRef "FairHouseModel" (15 : Nat) "ride") ∈ lw_tbl := lw_at lw_m11 201 rfl
theorem q2720 : (Jvm.Cond.stringRef "FairHouseModel" (17 : Nat) "spin") ∈ lw_tbl := lw_at lw_m11 202 rfl
theorem q2721 : (Jvm.Cond.stringRef "FairHouseModel" (19 : Nat) "lift") ∈ lw_tbl := lw_at lw_m11 203 rfl
theorem q2722 : (Jvm.Cond.stringRef "FairHouseModel" (21 : Nat) "glow") ∈ lw_tbl := lw_at lw_m11 204 rfl
theorem q2723 : (Jvm.Cond.stringRef "FairHouseModel" (23 : Nat) "sound") ∈ lw_tbl := lw_at lw_m11 205 rfl
theorem q2724 : (Jvm.Cond.stringRef "FairHouseModel" (25 : Nat) "load") ∈ lw_tbl := lw_at lw_m11 206 rfl
theorem q2725 : (Jvm.Cond.stringRef "FairHouseModel" (27 : Nat) "unload") ∈ lw_tbl := lw_at lw_m11 207 rfl
theorem q2726 : (Jvm.Cond.stringRef "FairHouseModel" (29 : Nat) "mend") ∈ lw_tbl := lw_at lw_m11 208 rfl
theorem q2727 : (Jvm.Cond.stringRef "FairHouseModel" (31 : Nat) "wait") ∈ lw_tbl := lw_at lw_m11 209 rfl
theorem q2728 : (Jvm.Cond.stringRef "FairHouseModel" (33 : Nat) "until") ∈ lw_tbl := lw_at lw_m11 210 rfl
theorem q2729 : (Jvm.Cond.stringRef "FairHouseModel" (35 : Nat) "claim") ∈ lw_tbl := lw_at lw_m11 211 rfl
theorem q2730 : (Jvm.Cond.stringRef "FairHouseModel" (37 : Nat) "free") ∈ lw_tbl := lw_at lw_m11 212 rfl
theorem q2731 : (Jvm.Cond.stringRef "FairHouseModel" (39 : Nat) "raise") ∈ lw_tbl := lw_at lw_m11 213 rfl
theorem q2732 : (Jvm.Cond.stringRef "FairHouseModel" (41 : Nat) "lower") ∈ lw_tbl := lw_at lw_m11 214 rfl
theorem q2733 : (Jvm.Cond.stringRef "FairHouseModel" (43 : Nat) "repeat") ∈ lw_tbl := lw_at lw_m11 215 rfl
theorem q2734 : (Jvm.Cond.stringRef "FairHouseModel" (45 : Nat) "loop") ∈ lw_tbl := lw_at lw_m11 216 rfl
theorem q2735 : (Jvm.Cond.stringRef "FairHouseModel" (47 : Nat) "if") ∈ lw_tbl := lw_at lw_m11 217 rfl
theorem q2736 : (Jvm.Cond.stringRef "FairHouseModel" (49 : Nat) "guard") ∈ lw_tbl := lw_at lw_m11 218 rfl
theorem q2737 : (Jvm.Cond.stringRef "FairHouseModel" (51 : Nat) "leave") ∈ lw_tbl := lw_at lw_m11 219 rfl
theorem q2738 : (Jvm.Cond.stringRef "FairHouseModel" (53 : Nat) "stop") ∈ lw_tbl := lw_at lw_m11 220 rfl
theorem q2739 : (Jvm.Cond.stringRef "FairHouseModel" (55 : Nat) "wheel") ∈ lw_tbl := lw_at lw_m11 221 rfl
theorem q2740 : (Jvm.Cond.stringRef "FairHouseModel" (57 : Nat) "tower") ∈ lw_tbl := lw_at lw_m11 222 rfl
theorem q2741 : (Jvm.Cond.stringRef "FairHouseModel" (59 : Nat) "swing") ∈ lw_tbl := lw_at lw_m11 223 rfl
theorem q2742 : (Jvm.Cond.stringRef "FairHouseModel" (61 : Nat) "organ") ∈ lw_tbl := lw_at lw_m11 224 rfl
theorem q2743 : (Jvm.Cond.stringRef "FairHouseModel" (63 : Nat) "arch") ∈ lw_tbl := lw_at lw_m11 225 rfl
theorem q2744 : (Jvm.Cond.stringRef "FairHouseModel" (65 : Nat) "comet") ∈ lw_tbl := lw_at lw_m11 226 rfl
theorem q2745 : (Jvm.Cond.stringRef "FairHouseModel" (67 : Nat) "ghost") ∈ lw_tbl := lw_at lw_m11 227 rfl
theorem q2746 : (Jvm.Cond.stringRef "FairHouseModel" (69 : Nat) "star") ∈ lw_tbl := lw_at lw_m11 228 rfl
theorem q2747 : (Jvm.Cond.stringRef "FairHouseModel" (71 : Nat) "tail") ∈ lw_tbl := lw_at lw_m11 229 rfl
theorem q2748 : (Jvm.Cond.stringRef "FairHouseModel" (73 : Nat) "why") ∈ lw_tbl := lw_at lw_m11 230 rfl
theorem q2749 : (Jvm.Cond.stringRef "FairHouseModel" (75 : Nat) "clock") ∈ lw_tbl := lw_at lw_m11 231 rfl
theorem q2750 : (Jvm.Cond.stringRef "FairHouseModel" (77 : Nat) "wind") ∈ lw_tbl := lw_at lw_m11 232 rfl
theorem q2751 : (Jvm.Cond.stringRef "FairHouseModel" (79 : Nat) "queue") ∈ lw_tbl := lw_at lw_m11 233 rfl
theorem q2752 : (Jvm.Cond.stringRef "FairHouseModel" (81 : Nat) "speed") ∈ lw_tbl := lw_at lw_m11 234 rfl
theorem q2753 : (Jvm.Cond.stringRef "FairHouseModel" (83 : Nat) "height") ∈ lw_tbl := lw_at lw_m11 235 rfl
theorem q2754 : (Jvm.Cond.stringRef "FairHouseModel" (85 : Nat) "aboard") ∈ lw_tbl := lw_at lw_m11 236 rfl
theorem q2755 : (Jvm.Cond.stringRef "FairHouseModel" (87 : Nat) "volume") ∈ lw_tbl := lw_at lw_m11 237 rfl
theorem q2756 : (Jvm.Cond.stringRef "FairHouseModel" (89 : Nat) "wear") ∈ lw_tbl := lw_at lw_m11 238 rfl
theorem q2757 : (Jvm.Cond.stringRef "FairHouseModel" (91 : Nat) "r0") ∈ lw_tbl := lw_at lw_m11 239 rfl
theorem q2758 : (Jvm.Cond.stringRef "FairHouseModel" (93 : Nat) "r1") ∈ lw_tbl := lw_at lw_m12 0 rfl
theorem q2759 : (Jvm.Cond.stringRef "FairHouseModel" (95 : Nat) "r2") ∈ lw_tbl := lw_at lw_m12 1 rfl
theorem q2760 : (Jvm.Cond.stringRef "FairHouseModel" (97 : Nat) "r3") ∈ lw_tbl := lw_at lw_m12 2 rfl
theorem q2761 : (Jvm.Cond.stringRef "FairHouseModel" (99 : Nat) "on") ∈ lw_tbl := lw_at lw_m12 3 rfl
theorem q2762 : (Jvm.Cond.stringRef "FairHouseModel" (101 : Nat) "else") ∈ lw_tbl := lw_at lw_m12 4 rfl
theorem q2763 : (Jvm.Cond.stringRef "FairHouseModel" (103 : Nat) "up") ∈ lw_tbl := lw_at lw_m12 5 rfl
theorem q2764 : (Jvm.Cond.stringRef "FairHouseModel" (105 : Nat) "and") ∈ lw_tbl := lw_at lw_m12 6 rfl
theorem q2765 : (Jvm.Cond.stringRef "FairHouseModel" (107 : Nat) "or") ∈ lw_tbl := lw_at lw_m12 7 rfl
theorem q2766 : (Jvm.Cond.stringRef "FairHouseModel" (109 : Nat) "not") ∈ lw_tbl := lw_at lw_m12 8 rfl
theorem q2767 : (Jvm.Cond.fieldLink "FairHouseModel" (111 : Nat) "FairHouseModel" "words" "[Ljava/lang/String;") ∈ lw_all := lw_g (lw_at lw_m12 9 rfl) rfl
theorem q2768 : (Jvm.Cond.fieldLink "FairHouseModel" (117 : Nat) "FairHouseModel" "abilities" "[I") ∈ lw_all := lw_g (lw_at lw_m12 10 rfl) rfl
theorem q2769 : (Jvm.Cond.fieldLink "FairHouseModel" (121 : Nat) "FairHouseModel" "tape" "[I") ∈ lw_all := lw_g (lw_at lw_m12 11 rfl) rfl
theorem q2770 : (Jvm.Cond.fieldLink "FairHouseModel" (569 : Nat) "FairHouseModel" "taped" "I") ∈ lw_all := lw_g (lw_at lw_m12 12 rfl) rfl
theorem q2771 : (Jvm.Cond.fieldLink "FairHouseModel" (124 : Nat) "FairHouseModel" "text" "[I") ∈ lw_all := lw_g (lw_at lw_m12 13 rfl) rfl
theorem q2772 : (Jvm.Cond.fieldLink "FairHouseModel" (291 : Nat) "FairHouseModel" "size" "I") ∈ lw_all := lw_g (lw_at lw_m12 14 rfl) rfl
theorem q2773 : (Jvm.Cond.fieldLink "FairHouseModel" (294 : Nat) "FairHouseModel" "at" "I") ∈ lw_all := lw_g (lw_at lw_m12 15 rfl) rfl
theorem q2774 : (Jvm.Cond.fieldLink "FairHouseModel" (303 : Nat) "FairHouseModel" "token" "I") ∈ lw_all := lw_g (lw_at lw_m12 16 rfl) rfl
theorem q2775 : (Jvm.Cond.fieldLink "FairHouseModel" (297 : Nat) "FairHouseModel" "begins" "I") ∈ lw_all := lw_g (lw_at lw_m12 17 rfl) rfl
theorem q2776 : (Jvm.Cond.fieldLink "FairHouseModel" (306 : Nat) "FairHouseModel" "ends" "I") ∈ lw_all := lw_g (lw_at lw_m12 18 rfl) rfl
theorem q2777 : (Jvm.Cond.fieldLink "FairHouseModel" (338 : Nat) "FairHouseModel" "number" "I") ∈ lw_all := lw_g (lw_at lw_m12 19 rfl) rfl
theorem q2778 : (Jvm.Cond.fieldLink "FairHouseModel" (300 : Nat) "FairHouseModel" "word" "I") ∈ lw_all := lw_g (lw_at lw_m12 20 rfl) rfl
theorem q2779 : (Jvm.Cond.fieldLink "FairHouseModel" (288 : Nat) "FairHouseModel" "fault" "I") ∈ lw_all := lw_g (lw_at lw_m12 21 rfl) rfl
theorem q2780 : (Jvm.Cond.fieldLink "FairHouseModel" (127 : Nat) "FairHouseModel" "faultPlace" "I") ∈ lw_all := lw_g (lw_at lw_m12 22 rfl) rfl
theorem q2781 : (Jvm.Cond.fieldLink "FairHouseModel" (131 : Nat) "FairHouseModel" "nameSort" "[I") ∈ lw_all := lw_g (lw_at lw_m12 23 rfl) rfl
theorem q2782 : (Jvm.Cond.fieldLink "FairHouseModel" (134 : Nat) "FairHouseModel" "nameOf" "[I") ∈ lw_all := lw_g (lw_at lw_m12 24 rfl) rfl
theorem q2783 : (Jvm.Cond.fieldLink "FairHouseModel" (137 : Nat) "FairHouseModel" "nameAt" "[I") ∈ lw_all := lw_g (lw_at lw_m12 25 rfl) rfl
theorem q2784 : (Jvm.Cond.fieldLink "FairHouseModel" (140 : Nat) "FairHouseModel" "nameLong" "[I") ∈ lw_all := lw_g (lw_at lw_m12 26 rfl) rfl
theorem q2785 : (Jvm.Cond.fieldLink "FairHouseModel" (351 : Nat) "FairHouseModel" "names" "I") ∈ lw_all := lw_g (lw_at lw_m12 27 rfl) rfl
theorem q2786 : (Jvm.Cond.fieldLink "FairHouseModel" (575 : Nat) "FairHouseModel" "isOpen" "Z") ∈ lw_all := lw_g (lw_at lw_m12 28 rfl) rfl
theorem q2787 : (Jvm.Cond.fieldLink "FairHouseModel" (361 : Nat) "FairHouseModel" "rides" "I") ∈ lw_all := lw_g (lw_at lw_m12 29 rfl) rfl
theorem q2788 : (Jvm.Cond.fieldLink "FairHouseModel" (371 : Nat) "FairHouseModel" "staff" "I") ∈ lw_all := lw_g (lw_at lw_m12 30 rfl) rfl
theorem q2789 : (Jvm.Cond.fieldLink "FairHouseModel" (373 : Nat) "FairHouseModel" "flags" "I") ∈ lw_all := lw_g (lw_at lw_m12 31 rfl) rfl
theorem q2790 : (Jvm.Cond.fieldLink "FairHouseModel" (379 : Nat) "FairHouseModel" "power" "I") ∈ lw_all := lw_g (lw_at lw_m12 32 rfl) rfl
theorem q2791 : (Jvm.Cond.fieldLink "FairHouseModel" (367 : Nat) "FairHouseModel" "hasPower" "Z") ∈ lw_all := lw_g (lw_at lw_m12 33 rfl) rfl
theorem q2792 : (Jvm.Cond.fieldLink "FairHouseModel" (143 : Nat) "FairHouseModel" "kind" "[I") ∈ lw_all := lw_g (lw_at lw_m12 34 rfl) rfl
theorem q2793 : (Jvm.Cond.fieldLink "FairHouseModel" (146 : Nat) "FairHouseModel" "leader" "[I") ∈ lw_all := lw_g (lw_at lw_m12 35 rfl) rfl
theorem q2794 : (Jvm.Cond.fieldLink "FairHouseModel" (149 : Nat) "FairHouseModel" "mass" "[I") ∈ lw_all := lw_g (lw_at lw_m12 36 rfl) rfl
theorem q2795 : (Jvm.Cond.fieldLink "FairHouseModel" (152 : Nat) "FairHouseModel" "accel" "[I") ∈ lw_all := lw_g (lw_at lw_m12 37 rfl) rfl
theorem q2796 : (Jvm.Cond.fieldLink "FairHouseModel" (155 : Nat) "FairHouseModel" "load" "[I") ∈ lw_all := lw_g (lw_at lw_m12 38 rfl) rfl
theorem q2797 : (Jvm.Cond.fieldLink "FairHouseModel" (157 : Nat) "FairHouseModel" "pace" "[I") ∈ lw_all := lw_g (lw_at lw_m12 39 rfl) rfl
theorem q2798 : (Jvm.Cond.fieldLink "FairHouseModel" (160 : Nat) "FairHouseModel" "places" "[I") ∈ lw_all := lw_g (lw_at lw_m12 40 rfl) rfl
theorem q2799 : (Jvm.Cond.fieldLink "FairHouseModel" (163 : Nat) "FairHouseModel" "watts" "[I") ∈ lw_all := lw_g (lw_at lw_m12 41 rfl) rfl
theorem q2800 : (Jvm.Cond.fieldLink "FairHouseModel" (166 : Nat) "FairHouseModel" "start" "[I") ∈ lw_all := lw_g (lw_at lw_m12 42 rfl) rfl
theorem q2801 : (Jvm.Cond.fieldLink "FairHouseModel" (169 : Nat) "FairHouseModel" "staffAll" "[I") ∈ lw_all := lw_g (lw_at lw_m12 43 rfl) rfl
theorem q2802 : (Jvm.Cond.fieldLink "FairHouseModel" (172 : Nat) "FairHouseModel" "op" "[I") ∈ lw_all := lw_g (lw_at lw_m12 44 rfl) rfl
theorem q2803 : (Jvm.Cond.fieldLink "FairHouseModel" (175 : Nat) "FairHouseModel" "opAt" "[I") ∈ lw_all := lw_g (lw_at lw_m12 45 rfl) rfl
theorem q2804 : (Jvm.Cond.fieldLink "FairHouseModel" (178 : Nat) "FairHouseModel" "opA" "[I") ∈ lw_all := lw_g (lw_at lw_m12 46 rfl) rfl
theorem q2805 : (Jvm.Cond.fieldLink "FairHouseModel" (181 : Nat) "FairHouseModel" "opB" "[I") ∈ lw_all := lw_g (lw_at lw_m12 47 rfl) rfl
theorem q2806 : (Jvm.Cond.fieldLink "FairHouseModel" (184 : Nat) "FairHouseModel" "opC" "[I") ∈ lw_all := lw_g (lw_at lw_m12 48 rfl) rfl
theorem q2807 : (Jvm.Cond.fieldLink "FairHouseModel" (187 : Nat) "FairHouseModel" "opGuard" "[I") ∈ lw_all := lw_g (lw_at lw_m12 49 rfl) rfl
theorem q2808 : (Jvm.Cond.fieldLink "FairHouseModel" (401 : Nat) "FairHouseModel" "ops" "I") ∈ lw_all := lw_g (lw_at lw_m12 50 rfl) rfl
theorem q2809 : (Jvm.Cond.fieldLink "FairHouseModel" (190 : Nat) "FairHouseModel" "code" "[I") ∈ lw_all := lw_g (lw_at lw_m12 51 rfl) rfl
theorem q2810 : (Jvm.Cond.fieldLink "FairHouseModel" (193 : Nat) "FairHouseModel" "codeA" "[I") ∈ lw_all := lw_g (lw_at lw_m12 52 rfl) rfl
theorem q2811 : (Jvm.Cond.fieldLink "FairHouseModel" (196 : Nat) "FairHouseModel" "codeB" "[I") ∈ lw_all := lw_g (lw_at lw_m12 53 rfl) rfl
theorem q2812 : (Jvm.Cond.fieldLink "FairHouseModel" (364 : Nat) "FairHouseModel" "codes" "I") ∈ lw_all := lw_g (lw_at lw_m12 54 rfl) rfl
theorem q2813 : (Jvm.Cond.fieldLink "FairHouseModel" (199 : Nat) "FairHouseModel" "askNot" "[I") ∈ lw_all := lw_g (lw_at lw_m12 55 rfl) rfl
theorem q2814 : (Jvm.Cond.fieldLink "FairHouseModel" (202 : Nat) "FairHouseModel" "askSign" "[I") ∈ lw_all := lw_g (lw_at lw_m12 56 rfl) rfl
theorem q2815 : (Jvm.Cond.fieldLink "FairHouseModel" (205 : Nat) "FairHouseModel" "askA" "[I") ∈ lw_all := lw_g (lw_at lw_m12 57 rfl) rfl
theorem q2816 : (Jvm.Cond.fieldLink "FairHouseModel" (208 : Nat) "FairHouseModel" "askB" "[I") ∈ lw_all := lw_g (lw_at lw_m12 58 rfl) rfl
theorem q2817 : (Jvm.Cond.fieldLink "FairHouseModel" (211 : Nat) "FairHouseModel" "askNext" "[I") ∈ lw_all := lw_g (lw_at lw_m12 59 rfl) rfl
theorem q2818 : (Jvm.Cond.fieldLink "FairHouseModel" (458 : Nat) "FairHouseModel" "asks" "I") ∈ lw_all := lw_g (lw_at lw_m12 60 rfl) rfl
theorem q2819 : (Jvm.Cond.fieldLink "FairHouseModel" (393 : Nat) "FairHouseModel" "reads" "I") ∈ lw_all := lw_g (lw_at lw_m12 61 rfl) rfl
theorem q2820 : (Jvm.Cond.fieldLink "FairHouseModel" (396 : Nat) "FairHouseModel" "steps" "I") ∈ lw_all := lw_g (lw_at lw_m12 62 rfl) rfl
theorem q2821 : (Jvm.Cond.fieldLink "FairHouseModel" (399 : Nat) "FairHouseModel" "loop" "I") ∈ lw_all := lw_g (lw_at lw_m12 63 rfl) rfl
theorem q2822 : (Jvm.Cond.fieldLink "FairHouseModel" (436 : Nat) "FairHouseModel" "nested" "I") ∈ lw_all := lw_g (lw_at lw_m12 64 rfl) rfl
theorem q2823 : (Jvm.Cond.fieldLink "FairHouseModel" (214 : Nat) "FairHouseModel" "speed" "[I") ∈ lw_all := lw_g (lw_at lw_m12 65 rfl) rfl
theorem q2824 : (Jvm.Cond.fieldLink "FairHouseModel" (216 : Nat) "FairHouseModel" "goal" "[I") ∈ lw_all := lw_g (lw_at lw_m12 66 rfl) rfl
theorem q2825 : (Jvm.Cond.fieldLink "FairHouseModel" (219 : Nat) "FairHouseModel" "height" "[I") ∈ lw_all := lw_g (lw_at lw_m12 67 rfl) rfl
theorem q2826 : (Jvm.Cond.fieldLink "FairHouseModel" (221 : Nat) "FairHouseModel" "lift" "[I") ∈ lw_all := lw_g (lw_at lw_m12 68 rfl) rfl
theorem q2827 : (Jvm.Cond.fieldLink "FairHouseModel" (223 : Nat) "FairHouseModel" "moved" "[I") ∈ lw_all := lw_g (lw_at lw_m12 69 rfl) rfl
theorem q2828 : (Jvm.Cond.fieldLink "FairHouseModel" (226 : Nat) "FairHouseModel" "aboard" "[I") ∈ lw_all := lw_g (lw_at lw_m12 70 rfl) rfl
theorem q2829 : (Jvm.Cond.fieldLink "FairHouseModel" (228 : Nat) "FairHouseModel" "glow" "[I") ∈ lw_all := lw_g (lw_at lw_m12 71 rfl) rfl
theorem q2830 : (Jvm.Cond.fieldLink "FairHouseModel" (230 : Nat) "FairHouseModel" "volume" "[I") ∈ lw_all := lw_g (lw_at lw_m12 72 rfl) rfl
theorem q2831 : (Jvm.Cond.fieldLink "FairHouseModel" (232 : Nat) "FairHouseModel" "wear" "[I") ∈ lw_all := lw_g (lw_at lw_m12 73 rfl) rfl
theorem q2832 : (Jvm.Cond.fieldLink "FairHouseModel" (234 : Nat) "FairHouseModel" "state" "[I") ∈ lw_all := lw_g (lw_at lw_m12 74 rfl) rfl
theorem q2833 : (Jvm.Cond.fieldLink "FairHouseModel" (237 : Nat) "FairHouseModel" "why" "[I") ∈ lw_all := lw_g (lw_at lw_m12 75 rfl) rfl
theorem q2834 : (Jvm.Cond.fieldLink "FairHouseModel" (239 : Nat) "FairHouseModel" "next" "[I") ∈ lw_all := lw_g (lw_at lw_m12 76 rfl) rfl
theorem q2835 : (Jvm.Cond.fieldLink "FairHouseModel" (242 : Nat) "FairHouseModel" "counted" "[I") ∈ lw_all := lw_g (lw_at lw_m12 77 rfl) rfl
theorem q2836 : (Jvm.Cond.fieldLink "FairHouseModel" (245 : Nat) "FairHouseModel" "left" "[I") ∈ lw_all := lw_g (lw_at lw_m12 78 rfl) rfl
theorem q2837 : (Jvm.Cond.fieldLink "FairHouseModel" (248 : Nat) "FairHouseModel" "begun" "[I") ∈ lw_all := lw_g (lw_at lw_m12 79 rfl) rfl
theorem q2838 : (Jvm.Cond.fieldLink "FairHouseModel" (251 : Nat) "FairHouseModel" "register" "[I") ∈ lw_all := lw_g (lw_at lw_m12 80 rfl) rfl
theorem q2839 : (Jvm.Cond.fieldLink "FairHouseModel" (254 : Nat) "FairHouseModel" "turns" "[I") ∈ lw_all := lw_g (lw_at lw_m12 81 rfl) rfl
theorem q2840 : (Jvm.Cond.fieldLink "FairHouseModel" (257 : Nat) "FairHouseModel" "holds" "[I") ∈ lw_all := lw_g (lw_at lw_m12 82 rfl) rfl
theorem q2841 : (Jvm.Cond.fieldLink "FairHouseModel" (260 : Nat) "FairHouseModel" "idle" "[I") ∈ lw_all := lw_g (lw_at lw_m12 83 rfl) rfl
theorem q2842 : (Jvm.Cond.fieldLink "FairHouseModel" (263 : Nat) "FairHouseModel" "isUp" "[Z") ∈ lw_all := lw_g (lw_at lw_m12 84 rfl) rfl
theorem q2843 : (Jvm.Cond.fieldLink "FairHouseModel" (267 : Nat) "FairHouseModel" "groups" "[I") ∈ lw_all := lw_g (lw_at lw_m12 85 rfl) rfl
theorem q2844 : (Jvm.Cond.fieldLink "FairHouseModel" (270 : Nat) "FairHouseModel" "groupSize" "[I") ∈ lw_all := lw_g (lw_at lw_m12 86 rfl) rfl
theorem q2845 : (Jvm.Cond.fieldLink "FairHouseModel" (273 : Nat) "FairHouseModel" "groupClock" "[I") ∈ lw_all := lw_g (lw_at lw_m12 87 rfl) rfl
theorem q2846 : (Jvm.Cond.fieldLink "FairHouseModel" (475 : Nat) "FairHouseModel" "clock" "I") ∈ lw_all := lw_g (lw_at lw_m12 88 rfl) rfl
theorem q2847 : (Jvm.Cond.fieldLink "FairHouseModel" (477 : Nat) "FairHouseModel" "wind" "I") ∈ lw_all := lw_g (lw_at lw_m12 89 rfl) rfl
theorem q2848 : (Jvm.Cond.fieldLink "FairHouseModel" (497 : Nat) "FairHouseModel" "served" "I") ∈ lw_all := lw_g (lw_at lw_m12 90 rfl) rfl
theorem q2849 : (Jvm.Cond.fieldLink "FairHouseModel" (500 : Nat) "FairHouseModel" "gone" "I") ∈ lw_all := lw_g (lw_at lw_m12 91 rfl) rfl
theorem q2850 : (Jvm.Cond.fieldLink "FairHouseModel" (503 : Nat) "FairHouseModel" "waited" "I") ∈ lw_all := lw_g (lw_at lw_m12 92 rfl) rfl
theorem q2851 : (Jvm.Cond.fieldLink "FairHouseModel" (506 : Nat) "FairHouseModel" "logged" "I") ∈ lw_all := lw_g (lw_at lw_m12 93 rfl) rfl
theorem q2852 : (Jvm.Cond.fieldLink "FairHouseModel" (276 : Nat) "FairHouseModel" "logs" "[I") ∈ lw_all := lw_g (lw_at lw_m12 94 rfl) rfl
theorem q2853 : (Jvm.Cond.fieldLink "FairHouseModel" (279 : Nat) "FairHouseModel" "draws" "[I") ∈ lw_all := lw_g (lw_at lw_m12 95 rfl) rfl
theorem q2854 : (Jvm.Cond.fieldLink "FairHouseModel" (282 : Nat) "FairHouseModel" "stack" "[I") ∈ lw_all := lw_g (lw_at lw_m12 96 rfl) rfl
theorem q2855 : (Jvm.Cond.fieldLink "FairHouseModel" (466 : Nat) "FairHouseModel" "top" "I") ∈ lw_all := lw_g (lw_at lw_m12 97 rfl) rfl
theorem q2856 : (Jvm.Cond.fieldLink "FairHouseModel" (469 : Nat) "FairHouseModel" "byZero" "Z") ∈ lw_all := lw_g (lw_at lw_m12 98 rfl) rfl
theorem q2857 : (Jvm.Cond.fieldLink "FairHouseModel" (285 : Nat) "FairHouseModel" "thrown" "I") ∈ lw_all := lw_g (lw_at lw_m12 99 rfl) rfl
theorem q2858 : (Jvm.Cond.laysFinal "FairHouseModel" "FairHouseModel" "words" "[Ljava/lang/String;") ∈ lw_all := lw_g (lw_at lw_m12 100 rfl) rfl
theorem q2859 : (Jvm.Cond.soleField "FairHouseModel" "words") ∈ lw_all := lw_g (lw_at lw_m12 101 rfl) rfl
theorem q2860 : (Jvm.Cond.laysFinal "FairHouseModel" "FairHouseModel" "abilities" "[I") ∈ lw_all := lw_g (lw_at lw_m12 102 rfl) rfl
theorem q2861 : (Jvm.Cond.soleField "FairHouseModel" "abilities") ∈ lw_all := lw_g (lw_at lw_m12 103 rfl) rfl
theorem q2862 : (Jvm.Cond.laysFinal "FairHouseModel" "FairHouseModel" "tape" "[I") ∈ lw_all := lw_g (lw_at lw_m12 104 rfl) rfl
theorem q2863 : (Jvm.Cond.soleField "FairHouseModel" "tape") ∈ lw_all := lw_g (lw_at lw_m12 105 rfl) rfl
theorem q2864 : (Jvm.Cond.lays "FairHouseModel" "FairHouseModel" "taped" "I") ∈ lw_all := lw_g (lw_at lw_m12 106 rfl) rfl
theorem q2865 : (Jvm.Cond.soleField "FairHouseModel" "taped") ∈ lw_all := lw_g (lw_at lw_m12 107 rfl) rfl
theorem q2866 : (Jvm.Cond.laysFinal "FairHouseModel" "FairHouseModel" "text" "[I") ∈ lw_all := lw_g (lw_at lw_m12 108 rfl) rfl
theorem q2867 : (Jvm.Cond.soleField "FairHouseModel" "text") ∈ lw_all := lw_g (lw_at lw_m12 109 rfl) rfl
theorem q2868 : (Jvm.Cond.lays "FairHouseModel" "FairHouseModel" "size" "I") ∈ lw_all := lw_g (lw_at lw_m12 110 rfl) rfl
theorem q2869 : (Jvm.Cond.soleField "FairHouseModel" "size") ∈ lw_all := lw_g (lw_at lw_m12 111 rfl) rfl
theorem q2870 : (Jvm.Cond.lays "FairHouseModel" "FairHouseModel" "at" "I") ∈ lw_all := lw_g (lw_at lw_m12 112 rfl) rfl
theorem q2871 : (Jvm.Cond.soleField "FairHouseModel" "at") ∈ lw_all := lw_g (lw_at lw_m12 113 rfl) rfl
theorem q2872 : (Jvm.Cond.lays "FairHouseModel" "FairHouseModel" "token" "I") ∈ lw_all := lw_g (lw_at lw_m12 114 rfl) rfl
theorem q2873 : (Jvm.Cond.soleField "FairHouseModel" "token") ∈ lw_all := lw_g (lw_at lw_m12 115 rfl) rfl
theorem q2874 : (Jvm.Cond.lays "FairHouseModel" "FairHouseModel" "begins" "I") ∈ lw_all := lw_g (lw_at lw_m12 116 rfl) rfl
theorem q2875 : (Jvm.Cond.soleField "FairHouseModel" "begins") ∈ lw_all := lw_g (lw_at lw_m12 117 rfl) rfl
theorem q2876 : (Jvm.Cond.lays "FairHouseModel" "FairHouseModel" "ends" "I") ∈ lw_all := lw_g (lw_at lw_m12 118 rfl) rfl
theorem q2877 : (Jvm.Cond.soleField "FairHouseModel" "ends") ∈ lw_all := lw_g (lw_at lw_m12 119 rfl) rfl
theorem q2878 : (Jvm.Cond.lays "FairHouseModel" "FairHouseModel" "number" "I") ∈ lw_all := lw_g (lw_at lw_m12 120 rfl) rfl
theorem q2879 : (Jvm.Cond.soleField "FairHouseModel" "number") ∈ lw_all := lw_g (lw_at lw_m12 121 rfl) rfl
theorem q2880 : (Jvm.Cond.lays "FairHouseModel" "FairHouseModel" "word" "I") ∈ lw_all := lw_g (lw_at lw_m12 122 rfl) rfl
theorem q2881 : (Jvm.Cond.soleField "FairHouseModel" "word") ∈ lw_all := lw_g (lw_at lw_m12 123 rfl) rfl
theorem q2882 : (Jvm.Cond.lays "FairHouseModel" "FairHouseModel" "fault" "I") ∈ lw_all := lw_g (lw_at lw_m12 124 rfl) rfl
theorem q2883 : (Jvm.Cond.soleField "FairHouseModel" "fault") ∈ lw_all := lw_g (lw_at lw_m12 125 rfl) rfl
theorem q2884 : (Jvm.Cond.lays "FairHouseModel" "FairHouseModel" "faultPlace" "I") ∈ lw_all := lw_g (lw_at lw_m12 126 rfl) rfl
theorem q2885 : (Jvm.Cond.soleField "FairHouseModel" "faultPlace") ∈ lw_all := lw_g (lw_at lw_m12 127 rfl) rfl
theorem q2886 : (Jvm.Cond.laysFinal "FairHouseModel" "FairHouseModel" "nameSort" "[I") ∈ lw_all := lw_g (lw_at lw_m12 128 rfl) rfl
theorem q2887 : (Jvm.Cond.soleField "FairHouseModel" "nameSort") ∈ lw_all := lw_g (lw_at lw_m12 129 rfl) rfl
theorem q2888 : (Jvm.Cond.laysFinal "FairHouseModel" "FairHouseModel" "nameOf" "[I") ∈ lw_all := lw_g (lw_at lw_m12 130 rfl) rfl
theorem q2889 : (Jvm.Cond.soleField "FairHouseModel" "nameOf") ∈ lw_all := lw_g (lw_at lw_m12 131 rfl) rfl
theorem q2890 : (Jvm.Cond.laysFinal "FairHouseModel" "FairHouseModel" "nameAt" "[I") ∈ lw_all := lw_g (lw_at lw_m12 132 rfl) rfl
theorem q2891 : (Jvm.Cond.soleField "FairHouseModel" "nameAt") ∈ lw_all := lw_g (lw_at lw_m12 133 rfl) rfl
theorem q2892 : (Jvm.Cond.laysFinal "FairHouseModel" "FairHouseModel" "nameLong" "[I") ∈ lw_all := lw_g (lw_at lw_m12 134 rfl) rfl
theorem q2893 : (Jvm.Cond.soleField "FairHouseModel" "nameLong") ∈ lw_all := lw_g (lw_at lw_m12 135 rfl) rfl
theorem q2894 : (Jvm.Cond.lays "FairHouseModel" "FairHouseModel" "names" "I") ∈ lw_all := lw_g (lw_at lw_m12 136 rfl) rfl
theorem q2895 : (Jvm.Cond.soleField "FairHouseModel" "names") ∈ lw_all := lw_g (lw_at lw_m12 137 rfl) rfl
theorem q2896 : (Jvm.Cond.lays "FairHouseModel" "FairHouseModel" "isOpen" "Z") ∈ lw_all := lw_g (lw_at lw_m12 138 rfl) rfl
theorem q2897 : (Jvm.Cond.soleField "FairHouseModel" "isOpen") ∈ lw_all := lw_g (lw_at lw_m12 139 rfl) rfl
theorem q2898 : (Jvm.Cond.lays "FairHouseModel" "FairHouseModel" "rides" "I") ∈ lw_all := lw_g (lw_at lw_m12 140 rfl) rfl
theorem q2899 : (Jvm.Cond.soleField "FairHouseModel" "rides") ∈ lw_all := lw_g (lw_at lw_m12 141 rfl) rfl
theorem q2900 : (Jvm.Cond.lays "FairHouseModel" "FairHouseModel" "staff" "I") ∈ lw_all := lw_g (lw_at lw_m12 142 rfl) rfl
theorem q2901 : (Jvm.Cond.soleField "FairHouseModel" "staff") ∈ lw_all := lw_g (lw_at lw_m12 143 rfl) rfl
theorem q2902 : (Jvm.Cond.lays "FairHouseModel" "FairHouseModel" "flags" "I") ∈ lw_all := lw_g (lw_at lw_m12 144 rfl) rfl
theorem q2903 : (Jvm.Cond.soleField "FairHouseModel" "flags") ∈ lw_all := lw_g (lw_at lw_m12 145 rfl) rfl
theorem q2904 : (Jvm.Cond.lays "FairHouseModel" "FairHouseModel" "power" "I") ∈ lw_all := lw_g (lw_at lw_m12 146 rfl) rfl
theorem q2905 : (Jvm.Cond.soleField "FairHouseModel" "power") ∈ lw_all := lw_g (lw_at lw_m12 147 rfl) rfl
theorem q2906 : (Jvm.Cond.lays "FairHouseModel" "FairHouseModel" "hasPower" "Z") ∈ lw_all := lw_g (lw_at lw_m12 148 rfl) rfl
theorem q2907 : (Jvm.Cond.soleField "FairHouseModel" "hasPower") ∈ lw_all := lw_g (lw_at lw_m12 149 rfl) rfl
theorem q2908 : (Jvm.Cond.laysFinal "FairHouseModel" "FairHouseModel" "kind" "[I") ∈ lw_all := lw_g (lw_at lw_m12 150 rfl) rfl
theorem q2909 : (Jvm.Cond.soleField "FairHouseModel" "kind") ∈ lw_all := lw_g (lw_at lw_m12 151 rfl) rfl
theorem q2910 : (Jvm.Cond.laysFinal "FairHouseModel" "FairHouseModel" "leader" "[I") ∈ lw_all := lw_g (lw_at lw_m12 152 rfl) rfl
theorem q2911 : (Jvm.Cond.soleField "FairHouseModel" "leader") ∈ lw_all := lw_g (lw_at lw_m12 153 rfl) rfl
theorem q2912 : (Jvm.Cond.laysFinal "FairHouseModel" "FairHouseModel" "mass" "[I") ∈ lw_all := lw_g (lw_at lw_m12 154 rfl) rfl
theorem q2913 : (Jvm.Cond.soleField "FairHouseModel" "mass") ∈ lw_all := lw_g (lw_at lw_m12 155 rfl) rfl
theorem q2914 : (Jvm.Cond.laysFinal "FairHouseModel" "FairHouseModel" "accel" "[I") ∈ lw_all := lw_g (lw_at lw_m12 156 rfl) rfl
theorem q2915 : (Jvm.Cond.soleField "FairHouseModel" "accel") ∈ lw_all := lw_g (lw_at lw_m12 157 rfl) rfl
theorem q2916 : (Jvm.Cond.laysFinal "FairHouseModel" "FairHouseModel" "load" "[I") ∈ lw_all := lw_g (lw_at lw_m12 158 rfl) rfl
theorem q2917 : (Jvm.Cond.soleField "FairHouseModel" "load") ∈ lw_all := lw_g (lw_at lw_m12 159 rfl) rfl
theorem q2918 : (Jvm.Cond.laysFinal "FairHouseModel" "FairHouseModel" "pace" "[I") ∈ lw_all := lw_g (lw_at lw_m12 160 rfl) rfl
theorem q2919 : (Jvm.Cond.soleField "FairHouseModel" "pace") ∈ lw_all := lw_g (lw_at lw_m12 161 rfl) rfl
theorem q2920 : (Jvm.Cond.laysFinal "FairHouseModel" "FairHouseModel" "places" "[I") ∈ lw_all := lw_g (lw_at lw_m12 162 rfl) rfl
theorem q2921 : (Jvm.Cond.soleField "FairHouseModel" "places") ∈ lw_all := lw_g (lw_at lw_m12 163 rfl) rfl
theorem q2922 : (Jvm.Cond.laysFinal "FairHouseModel" "FairHouseModel" "watts" "[I") ∈ lw_all := lw_g (lw_at lw_m12 164 rfl) rfl
theorem q2923 : (Jvm.Cond.soleField "FairHouseModel" "watts") ∈ lw_all := lw_g (lw_at lw_m12 165 rfl) rfl
theorem q2924 : (Jvm.Cond.laysFinal "FairHouseModel" "FairHouseModel" "start" "[I") ∈ lw_all := lw_g (lw_at lw_m12 166 rfl) rfl
theorem q2925 : (Jvm.Cond.soleField "FairHouseModel" "start") ∈ lw_all := lw_g (lw_at lw_m12 167 rfl) rfl
theorem q2926 : (Jvm.Cond.laysFinal "FairHouseModel" "FairHouseModel" "staffAll" "[I") ∈ lw_all := lw_g (lw_at lw_m12 168 rfl) rfl
theorem q2927 : (Jvm.Cond.soleField "FairHouseModel" "staffAll") ∈ lw_all := lw_g (lw_at lw_m12 169 rfl) rfl
theorem q2928 : (Jvm.Cond.laysFinal "FairHouseModel" "FairHouseModel" "op" "[I") ∈ lw_all := lw_g (lw_at lw_m12 170 rfl) rfl
theorem q2929 : (Jvm.Cond.soleField "FairHouseModel" "op") ∈ lw_all := lw_g (lw_at lw_m12 171 rfl) rfl
theorem q2930 : (Jvm.Cond.laysFinal "FairHouseModel" "FairHouseModel" "opAt" "[I") ∈ lw_all := lw_g (lw_at lw_m12 172 rfl) rfl
theorem q2931 : (Jvm.Cond.soleField "FairHouseModel" "opAt") ∈ lw_all := lw_g (lw_at lw_m12 173 rfl) rfl
theorem q2932 : (Jvm.Cond.laysFinal "FairHouseModel" "FairHouseModel" "opA" "[I") ∈ lw_all := lw_g (lw_at lw_m12 174 rfl) rfl
theorem q2933 : (Jvm.Cond.soleField "FairHouseModel" "opA") ∈ lw_all := lw_g (lw_at lw_m12 175 rfl) rfl
theorem q2934 : (Jvm.Cond.laysFinal "FairHouseModel" "FairHouseModel" "opB" "[I") ∈ lw_all := lw_g (lw_at lw_m12 176 rfl) rfl
theorem q2935 : (Jvm.Cond.soleField "FairHouseModel" "opB") ∈ lw_all := lw_g (lw_at lw_m12 177 rfl) rfl
theorem q2936 : (Jvm.Cond.laysFinal "FairHouseModel" "FairHouseModel" "opC" "[I") ∈ lw_all := lw_g (lw_at lw_m12 178 rfl) rfl
theorem q2937 : (Jvm.Cond.soleField "FairHouseModel" "opC") ∈ lw_all := lw_g (lw_at lw_m12 179 rfl) rfl
theorem q2938 : (Jvm.Cond.laysFinal "FairHouseModel" "FairHouseModel" "opGuard" "[I") ∈ lw_all := lw_g (lw_at lw_m12 180 rfl) rfl
theorem q2939 : (Jvm.Cond.soleField "FairHouseModel" "opGuard") ∈ lw_all := lw_g (lw_at lw_m12 181 rfl) rfl
theorem q2940 : (Jvm.Cond.lays "FairHouseModel" "FairHouseModel" "ops" "I") ∈ lw_all := lw_g (lw_at lw_m12 182 rfl) rfl
theorem q2941 : (Jvm.Cond.soleField "FairHouseModel" "ops") ∈ lw_all := lw_g (lw_at lw_m12 183 rfl) rfl
theorem q2942 : (Jvm.Cond.laysFinal "FairHouseModel" "FairHouseModel" "code" "[I") ∈ lw_all := lw_g (lw_at lw_m12 184 rfl) rfl
theorem q2943 : (Jvm.Cond.soleField "FairHouseModel" "code") ∈ lw_all := lw_g (lw_at lw_m12 185 rfl) rfl
theorem q2944 : (Jvm.Cond.laysFinal "FairHouseModel" "FairHouseModel" "codeA" "[I") ∈ lw_all := lw_g (lw_at lw_m12 186 rfl) rfl
theorem q2945 : (Jvm.Cond.soleField "FairHouseModel" "codeA") ∈ lw_all := lw_g (lw_at lw_m12 187 rfl) rfl
theorem q2946 : (Jvm.Cond.laysFinal "FairHouseModel" "FairHouseModel" "codeB" "[I") ∈ lw_all := lw_g (lw_at lw_m12 188 rfl) rfl
theorem q2947 : (Jvm.Cond.soleField "FairHouseModel" "codeB") ∈ lw_all := lw_g (lw_at lw_m12 189 rfl) rfl
theorem q2948 : (Jvm.Cond.lays "FairHouseModel" "FairHouseModel" "codes" "I") ∈ lw_all := lw_g (lw_at lw_m12 190 rfl) rfl
theorem q2949 : (Jvm.Cond.soleField "FairHouseModel" "codes") ∈ lw_all := lw_g (lw_at lw_m12 191 rfl) rfl
theorem q2950 : (Jvm.Cond.laysFinal "FairHouseModel" "FairHouseModel" "askNot" "[I") ∈ lw_all := lw_g (lw_at lw_m12 192 rfl) rfl
theorem q2951 : (Jvm.Cond.soleField "FairHouseModel" "askNot") ∈ lw_all := lw_g (lw_at lw_m12 193 rfl) rfl
theorem q2952 : (Jvm.Cond.laysFinal "FairHouseModel" "FairHouseModel" "askSign" "[I") ∈ lw_all := lw_g (lw_at lw_m12 194 rfl) rfl
theorem q2953 : (Jvm.Cond.soleField "FairHouseModel" "askSign") ∈ lw_all := lw_g (lw_at lw_m12 195 rfl) rfl
theorem q2954 : (Jvm.Cond.laysFinal "FairHouseModel" "FairHouseModel" "askA" "[I") ∈ lw_all := lw_g (lw_at lw_m12 196 rfl) rfl
theorem q2955 : (Jvm.Cond.soleField "FairHouseModel" "askA") ∈ lw_all := lw_g (lw_at lw_m12 197 rfl) rfl
theorem q2956 : (Jvm.Cond.laysFinal "FairHouseModel" "FairHouseModel" "askB" "[I") ∈ lw_all := lw_g (lw_at lw_m12 198 rfl) rfl
theorem q2957 : (Jvm.Cond.soleField "FairHouseModel" "askB") ∈ lw_all := lw_g (lw_at lw_m12 199 rfl) rfl
theorem q2958 : (Jvm.Cond.laysFinal "FairHouseModel" "FairHouseModel" "askNext" "[I") ∈ lw_all := lw_g (lw_at lw_m12 200 rfl) rfl
theorem q2959 : (Jvm.Cond.soleField "FairHouseModel" "askNext") ∈ lw_all := lw_g (lw_at lw_m12 201 rfl) rfl
theorem q2960 : (Jvm.Cond.lays "FairHouseModel" "FairHouseModel" "asks" "I") ∈ lw_all := lw_g (lw_at lw_m12 202 rfl) rfl
theorem q2961 : (Jvm.Cond.soleField "FairHouseModel" "asks") ∈ lw_all := lw_g (lw_at lw_m12 203 rfl) rfl
theorem q2962 : (Jvm.Cond.lays "FairHouseModel" "FairHouseModel" "reads" "I") ∈ lw_all := lw_g (lw_at lw_m12 204 rfl) rfl
theorem q2963 : (Jvm.Cond.soleField "FairHouseModel" "reads") ∈ lw_all := lw_g (lw_at lw_m12 205 rfl) rfl
theorem q2964 : (Jvm.Cond.lays "FairHouseModel" "FairHouseModel" "steps" "I") ∈ lw_all := lw_g (lw_at lw_m12 206 rfl) rfl
theorem q2965 : (Jvm.Cond.soleField "FairHouseModel" "steps") ∈ lw_all := lw_g (lw_at lw_m12 207 rfl) rfl
theorem q2966 : (Jvm.Cond.lays "FairHouseModel" "FairHouseModel" "loop" "I") ∈ lw_all := lw_g (lw_at lw_m12 208 rfl) rfl
theorem q2967 : (Jvm.Cond.soleField "FairHouseModel" "loop") ∈ lw_all := lw_g (lw_at lw_m12 209 rfl) rfl
theorem q2968 : (Jvm.Cond.lays "FairHouseModel" "FairHouseModel" "nested" "I") ∈ lw_all := lw_g (lw_at lw_m12 210 rfl) rfl
theorem q2969 : (Jvm.Cond.soleField "FairHouseModel" "nested") ∈ lw_all := lw_g (lw_at lw_m12 211 rfl) rfl
theorem q2970 : (Jvm.Cond.laysFinal "FairHouseModel" "FairHouseModel" "speed" "[I") ∈ lw_all := lw_g (lw_at lw_m12 212 rfl) rfl
theorem q2971 : (Jvm.Cond.soleField "FairHouseModel" "speed") ∈ lw_all := lw_g (lw_at lw_m12 213 rfl) rfl
theorem q2972 : (Jvm.Cond.laysFinal "FairHouseModel" "FairHouseModel" "goal" "[I") ∈ lw_all := lw_g (lw_at lw_m12 214 rfl) rfl
theorem q2973 : (Jvm.Cond.soleField "FairHouseModel" "goal") ∈ lw_all := lw_g (lw_at lw_m12 215 rfl) rfl
theorem q2974 : (Jvm.Cond.laysFinal "FairHouseModel" "FairHouseModel" "height" "[I") ∈ lw_all := lw_g (lw_at lw_m12 216 rfl) rfl
theorem q2975 : (Jvm.Cond.soleField "FairHouseModel" "height") ∈ lw_all := lw_g (lw_at lw_m12 217 rfl) rfl
theorem q2976 : (Jvm.Cond.laysFinal "FairHouseModel" "FairHouseModel" "lift" "[I") ∈ lw_all := lw_g (lw_at lw_m12 218 rfl) rfl
theorem q2977 : (Jvm.Cond.soleField "FairHouseModel" "lift") ∈ lw_all := lw_g (lw_at lw_m12 219 rfl) rfl
theorem q2978 : (Jvm.Cond.laysFinal "FairHouseModel" "FairHouseModel" "moved" "[I") ∈ lw_all := lw_g (lw_at lw_m12 220 rfl) rfl
theorem q2979 : (Jvm.Cond.soleField "FairHouseModel" "moved") ∈ lw_all := lw_g (lw_at lw_m12 221 rfl) rfl
theorem q2980 : (Jvm.Cond.laysFinal "FairHouseModel" "FairHouseModel" "aboard" "[I") ∈ lw_all := lw_g (lw_at lw_m12 222 rfl) rfl
theorem q2981 : (Jvm.Cond.soleField "FairHouseModel" "aboard") ∈ lw_all := lw_g (lw_at lw_m12 223 rfl) rfl
theorem q2982 : (Jvm.Cond.laysFinal "FairHouseModel" "FairHouseModel" "glow" "[I") ∈ lw_all := lw_g (lw_at lw_m12 224 rfl) rfl
theorem q2983 : (Jvm.Cond.soleField "FairHouseModel" "glow") ∈ lw_all := lw_g (lw_at lw_m12 225 rfl) rfl
theorem q2984 : (Jvm.Cond.laysFinal "FairHouseModel" "FairHouseModel" "volume" "[I") ∈ lw_all := lw_g (lw_at lw_m12 226 rfl) rfl
theorem q2985 : (Jvm.Cond.soleField "FairHouseModel" "volume") ∈ lw_all := lw_g (lw_at lw_m12 227 rfl) rfl
theorem q2986 : (Jvm.Cond.laysFinal "FairHouseModel" "FairHouseModel" "wear" "[I") ∈ lw_all := lw_g (lw_at lw_m12 228 rfl) rfl
theorem q2987 : (Jvm.Cond.soleField "FairHouseModel" "wear") ∈ lw_all := lw_g (lw_at lw_m12 229 rfl) rfl
theorem q2988 : (Jvm.Cond.laysFinal "FairHouseModel" "FairHouseModel" "state" "[I") ∈ lw_all := lw_g (lw_at lw_m12 230 rfl) rfl
theorem q2989 : (Jvm.Cond.soleField "FairHouseModel" "state") ∈ lw_all := lw_g (lw_at lw_m12 231 rfl) rfl
theorem q2990 : (Jvm.Cond.laysFinal "FairHouseModel" "FairHouseModel" "why" "[I") ∈ lw_all := lw_g (lw_at lw_m12 232 rfl) rfl
theorem q2991 : (Jvm.Cond.soleField "FairHouseModel" "why") ∈ lw_all := lw_g (lw_at lw_m12 233 rfl) rfl
theorem q2992 : (Jvm.Cond.laysFinal "FairHouseModel" "FairHouseModel" "next" "[I") ∈ lw_all := lw_g (lw_at lw_m12 234 rfl) rfl
theorem q2993 : (Jvm.Cond.soleField "FairHouseModel" "next") ∈ lw_all := lw_g (lw_at lw_m12 235 rfl) rfl
theorem q2994 : (Jvm.Cond.laysFinal "FairHouseModel" "FairHouseModel" "counted" "[I") ∈ lw_all := lw_g (lw_at lw_m12 236 rfl) rfl
theorem q2995 : (Jvm.Cond.soleField "FairHouseModel" "counted") ∈ lw_all := lw_g (lw_at lw_m12 237 rfl) rfl
theorem q2996 : (Jvm.Cond.laysFinal "FairHouseModel" "FairHouseModel" "left" "[I") ∈ lw_all := lw_g (lw_at lw_m12 238 rfl) rfl
theorem q2997 : (Jvm.Cond.soleField "FairHouseModel" "left") ∈ lw_all := lw_g (lw_at lw_m12 239 rfl) rfl
theorem q2998 : (Jvm.Cond.laysFinal "FairHouseModel" "FairHouseModel" "begun" "[I") ∈ lw_all := lw_g (lw_at lw_m13 0 rfl) rfl
theorem q2999 : (Jvm.Cond.soleField "FairHouseModel" "begun") ∈ lw_all := lw_g (lw_at lw_m13 1 rfl) rfl
theorem q3000 : (Jvm.Cond.laysFinal "FairHouseModel" "FairHouseModel" "register" "[I") ∈ lw_all := lw_g (lw_at lw_m13 2 rfl) rfl
theorem q3001 : (Jvm.Cond.soleField "FairHouseModel" "register") ∈ lw_all := lw_g (lw_at lw_m13 3 rfl) rfl
theorem q3002 : (Jvm.Cond.laysFinal "FairHouseModel" "FairHouseModel" "turns" "[I") ∈ lw_all := lw_g (lw_at lw_m13 4 rfl) rfl
theorem q3003 : (Jvm.Cond.soleField "FairHouseModel" "turns") ∈ lw_all := lw_g (lw_at lw_m13 5 rfl) rfl
theorem q3004 : (Jvm.Cond.laysFinal "FairHouseModel" "FairHouseModel" "holds" "[I") ∈ lw_all := lw_g (lw_at lw_m13 6 rfl) rfl
theorem q3005 : (Jvm.Cond.soleField "FairHouseModel" "holds") ∈ lw_all := lw_g (lw_at lw_m13 7 rfl) rfl
theorem q3006 : (Jvm.Cond.laysFinal "FairHouseModel" "FairHouseModel" "idle" "[I") ∈ lw_all := lw_g (lw_at lw_m13 8 rfl) rfl
theorem q3007 : (Jvm.Cond.soleField "FairHouseModel" "idle") ∈ lw_all := lw_g (lw_at lw_m13 9 rfl) rfl
theorem q3008 : (Jvm.Cond.laysFinal "FairHouseModel" "FairHouseModel" "isUp" "[Z") ∈ lw_all := lw_g (lw_at lw_m13 10 rfl) rfl
theorem q3009 : (Jvm.Cond.soleField "FairHouseModel" "isUp") ∈ lw_all := lw_g (lw_at lw_m13 11 rfl) rfl
theorem q3010 : (Jvm.Cond.laysFinal "FairHouseModel" "FairHouseModel" "groups" "[I") ∈ lw_all := lw_g (lw_at lw_m13 12 rfl) rfl
theorem q3011 : (Jvm.Cond.soleField "FairHouseModel" "groups") ∈ lw_all := lw_g (lw_at lw_m13 13 rfl) rfl
theorem q3012 : (Jvm.Cond.laysFinal "FairHouseModel" "FairHouseModel" "groupSize" "[I") ∈ lw_all := lw_g (lw_at lw_m13 14 rfl) rfl
theorem q3013 : (Jvm.Cond.soleField "FairHouseModel" "groupSize") ∈ lw_all := lw_g (lw_at lw_m13 15 rfl) rfl
theorem q3014 : (Jvm.Cond.laysFinal "FairHouseModel" "FairHouseModel" "groupClock" "[I") ∈ lw_all := lw_g (lw_at lw_m13 16 rfl) rfl
theorem q3015 : (Jvm.Cond.soleField "FairHouseModel" "groupClock") ∈ lw_all := lw_g (lw_at lw_m13 17 rfl) rfl
theorem q3016 : (Jvm.Cond.lays "FairHouseModel" "FairHouseModel" "clock" "I") ∈ lw_all := lw_g (lw_at lw_m13 18 rfl) rfl
theorem q3017 : (Jvm.Cond.soleField "FairHouseModel" "clock") ∈ lw_all := lw_g (lw_at lw_m13 19 rfl) rfl
theorem q3018 : (Jvm.Cond.lays "FairHouseModel" "FairHouseModel" "wind" "I") ∈ lw_all := lw_g (lw_at lw_m13 20 rfl) rfl
theorem q3019 : (Jvm.Cond.soleField "FairHouseModel" "wind") ∈ lw_all := lw_g (lw_at lw_m13 21 rfl) rfl
theorem q3020 : (Jvm.Cond.lays "FairHouseModel" "FairHouseModel" "served" "I") ∈ lw_all := lw_g (lw_at lw_m13 22 rfl) rfl
theorem q3021 : (Jvm.Cond.soleField "FairHouseModel" "served") ∈ lw_all := lw_g (lw_at lw_m13 23 rfl) rfl
theorem q3022 : (Jvm.Cond.lays "FairHouseModel" "FairHouseModel" "gone" "I") ∈ lw_all := lw_g (lw_at lw_m13 24 rfl) rfl
theorem q3023 : (Jvm.Cond.soleField "FairHouseModel" "gone") ∈ lw_all := lw_g (lw_at lw_m13 25 rfl) rfl
theorem q3024 : (Jvm.Cond.lays "FairHouseModel" "FairHouseModel" "waited" "I") ∈ lw_all := lw_g (lw_at lw_m13 26 rfl) rfl
theorem q3025 : (Jvm.Cond.soleField "FairHouseModel" "waited") ∈ lw_all := lw_g (lw_at lw_m13 27 rfl) rfl
theorem q3026 : (Jvm.Cond.lays "FairHouseModel" "FairHouseModel" "logged" "I") ∈ lw_all := lw_g (lw_at lw_m13 28 rfl) rfl
theorem q3027 : (Jvm.Cond.soleField "FairHouseModel" "logged") ∈ lw_all := lw_g (lw_at lw_m13 29 rfl) rfl
theorem q3028 : (Jvm.Cond.laysFinal "FairHouseModel" "FairHouseModel" "logs" "[I") ∈ lw_all := lw_g (lw_at lw_m13 30 rfl) rfl
theorem q3029 : (Jvm.Cond.soleField "FairHouseModel" "logs") ∈ lw_all := lw_g (lw_at lw_m13 31 rfl) rfl
theorem q3030 : (Jvm.Cond.laysFinal "FairHouseModel" "FairHouseModel" "draws" "[I") ∈ lw_all := lw_g (lw_at lw_m13 32 rfl) rfl
theorem q3031 : (Jvm.Cond.soleField "FairHouseModel" "draws") ∈ lw_all := lw_g (lw_at lw_m13 33 rfl) rfl
theorem q3032 : (Jvm.Cond.laysFinal "FairHouseModel" "FairHouseModel" "stack" "[I") ∈ lw_all := lw_g (lw_at lw_m13 34 rfl) rfl
theorem q3033 : (Jvm.Cond.soleField "FairHouseModel" "stack") ∈ lw_all := lw_g (lw_at lw_m13 35 rfl) rfl
theorem q3034 : (Jvm.Cond.lays "FairHouseModel" "FairHouseModel" "top" "I") ∈ lw_all := lw_g (lw_at lw_m13 36 rfl) rfl
theorem q3035 : (Jvm.Cond.soleField "FairHouseModel" "top") ∈ lw_all := lw_g (lw_at lw_m13 37 rfl) rfl
theorem q3036 : (Jvm.Cond.lays "FairHouseModel" "FairHouseModel" "byZero" "Z") ∈ lw_all := lw_g (lw_at lw_m13 38 rfl) rfl
theorem q3037 : (Jvm.Cond.soleField "FairHouseModel" "byZero") ∈ lw_all := lw_g (lw_at lw_m13 39 rfl) rfl
theorem q3038 : (Jvm.Cond.lays "FairHouseModel" "FairHouseModel" "thrown" "I") ∈ lw_all := lw_g (lw_at lw_m13 40 rfl) rfl
theorem q3039 : (Jvm.Cond.soleField "FairHouseModel" "thrown") ∈ lw_all := lw_g (lw_at lw_m13 41 rfl) rfl
theorem q3040 : (Jvm.Cond.superclass "FairHouseModel" "java/lang/Object") ∈ lw_all := lw_g (lw_at lw_m13 42 rfl) rfl
theorem q3042 : (Jvm.Cond.instanceMethod ({ cls := "FairHouseModel", name := "thrown", desc := "()I" } : Jvm.MethodName)) ∈ lw_all := lw_g (lw_at lw_m13 44 rfl) rfl
theorem q3043 : (Jvm.Cond.selects "FairHouseModel" ({ cls := "FairHouseModel", name := "thrown", desc := "()I" } : Jvm.MethodName) ({ cls := "FairHouseModel", name := "thrown", desc := "()I" } : Jvm.MethodName)) ∈ lw_all := lw_g (lw_at lw_m13 45 rfl) rfl
theorem q3044 : (Jvm.Cond.code ({ cls := "FairHouseModel", name := "thrown", desc := "()I" } : Jvm.MethodName) prog_42_method_2_code (1 : Nat) (Option.some Jvm.ClassFile.FieldType.int)) ∈ lw_all := lw_g (lw_at lw_m13 46 rfl) rfl
theorem q3046 : (Jvm.Cond.instanceMethod ({ cls := "FairHouseModel", name := "feed", desc := "(IIIII)I" } : Jvm.MethodName)) ∈ lw_all := lw_g (lw_at lw_m13 48 rfl) rfl
theorem q3047 : (Jvm.Cond.selects "FairHouseModel" ({ cls := "FairHouseModel", name := "feed", desc := "(IIIII)I" } : Jvm.MethodName) ({ cls := "FairHouseModel", name := "feed", desc := "(IIIII)I" } : Jvm.MethodName)) ∈ lw_all := lw_g (lw_at lw_m13 49 rfl) rfl
theorem q3048 : (Jvm.Cond.code ({ cls := "FairHouseModel", name := "feed", desc := "(IIIII)I" } : Jvm.MethodName) prog_42_method_68_code (8 : Nat) (Option.some Jvm.ClassFile.FieldType.int)) ∈ lw_all := lw_g (lw_at lw_m13 50 rfl) rfl
theorem q3050 : (Jvm.Cond.instanceMethod ({ cls := "FairHouseModel", name := "read", desc := "(I)I" } : Jvm.MethodName)) ∈ lw_all := lw_g (lw_at lw_m13 52 rfl) rfl
theorem q3051 : (Jvm.Cond.selects "FairHouseModel" ({ cls := "FairHouseModel", name := "read", desc := "(I)I" } : Jvm.MethodName) ({ cls := "FairHouseModel", name := "read", desc := "(I)I" } : Jvm.MethodName)) ∈ lw_all := lw_g (lw_at lw_m13 53 rfl) rfl
theorem q3052 : (Jvm.Cond.code ({ cls := "FairHouseModel", name := "read", desc := "(I)I" } : Jvm.MethodName) prog_42_method_69_code (3 : Nat) (Option.some Jvm.ClassFile.FieldType.int)) ∈ lw_all := lw_g (lw_at lw_m13 54 rfl) rfl
theorem q3053 : (Jvm.Cond.methodLink "FairHouseModel" (572 : Nat) ({ cls := "FairHouseModel", name := "fair", desc := "()V" } : Jvm.MethodName)) ∈ lw_all := lw_g (lw_at lw_m13 55 rfl) rfl
theorem q3054 : (Jvm.Cond.privateMethod ({ cls := "FairHouseModel", name := "fair", desc := "()V" } : Jvm.MethodName)) ∈ lw_tbl := lw_at lw_m13 56 rfl
theorem q3055 : (Jvm.Cond.instanceMethod ({ cls := "FairHouseModel", name := "fair", desc := "()V" } : Jvm.MethodName)) ∈ lw_all := lw_g (lw_at lw_m13 57 rfl) rfl
theorem q3056 : (Jvm.Cond.code ({ cls := "FairHouseModel", name := "fair", desc := "()V" } : Jvm.MethodName) prog_42_method_18_code (3 : Nat) (Option.none : Option Jvm.ClassFile.FieldType)) ∈ lw_all := lw_g (lw_at lw_m13 58 rfl) rfl
theorem q3057 : (Jvm.Cond.methodLink "FairHouseModel" (348 : Nat) ({ cls := "FairHouseModel", name := "cut", desc := "()V" } : Jvm.MethodName)) ∈ lw_all := lw_g (lw_at lw_m13 59 rfl) rfl
theorem q3058 : (Jvm.Cond.privateMethod ({ cls := "FairHouseModel", name := "cut", desc := "()V" } : Jvm.MethodName)) ∈ lw_tbl := lw_at lw_m13 60 rfl
theorem q3059 : (Jvm.Cond.instanceMethod ({ cls := "FairHouseModel", name := "cut", desc := "()V" } : Jvm.MethodName)) ∈ lw_all := lw_g (lw_at lw_m13 61 rfl) rfl
theorem q3060 : (Jvm.Cond.code ({ cls := "FairHouseModel", name := "cut", desc := "()V" } : Jvm.MethodName) prog_42_method_7_code (2 : Nat) (Option.none : Option Jvm.ClassFile.FieldType)) ∈ lw_all := lw_g (lw_at lw_m13 62 rfl) rfl
theorem q3061 : (Jvm.Cond.methodLink "FairHouseModel" (309 : Nat) ({ cls := "FairHouseModel", name := "isLetter", desc := "(I)Z" } : Jvm.MethodName)) ∈ lw_all := lw_g (lw_at lw_m13 63 rfl) rfl
theorem q3062 : (Jvm.Cond.static ({ cls := "FairHouseModel", name := "isLetter", desc := "(I)Z" } : Jvm.MethodName)) ∈ lw_all := lw_g (lw_at lw_m13 64 rfl) rfl
theorem q3063 : (Jvm.Cond.code ({ cls := "FairHouseModel", name := "isLetter", desc := "(I)Z" } : Jvm.MethodName) prog_42_method_4_code (1 : Nat) (Option.some Jvm.ClassFile.FieldType.boolean)) ∈ lw_all := lw_g (lw_at lw_m13 65 rfl) rfl
theorem q3064 : (Jvm.Cond.methodLink "FairHouseModel" (313 : Nat) ({ cls := "FairHouseModel", name := "readWord", desc := "()V" } : Jvm.MethodName)) ∈ lw_all := lw_g (lw_at lw_m13 66 rfl) rfl
theorem q3065 : (Jvm.Cond.privateMethod ({ cls := "FairHouseModel", name := "readWord", desc := "()V" } : Jvm.MethodName)) ∈ lw_tbl := lw_at lw_m13 67 rfl
theorem q3066 : (Jvm.Cond.instanceMethod ({ cls := "FairHouseModel", name := "readWord", desc := "()V" } : Jvm.MethodName)) ∈ lw_all := lw_g (lw_at lw_m13 68 rfl) rfl
theorem q3067 : (Jvm.Cond.code ({ cls := "FairHouseModel", name := "readWord", desc := "()V" } : Jvm.MethodName) prog_42_method_8_code (4 : Nat) (Option.none : Option Jvm.ClassFile.FieldType)) ∈ lw_all := lw_g (lw_at lw_m13 69 rfl) rfl
theorem q3068 : (Jvm.Cond.methodLink "FairHouseModel" (326 : Nat) ({ cls := "FairHouseModel", name := "byteAt", desc := "(I)I" } : Jvm.MethodName)) ∈ lw_all := lw_g (lw_at lw_m13 70 rfl) rfl
theorem q3069 : (Jvm.Cond.privateMethod ({ cls := "FairHouseModel", name := "byteAt", desc := "(I)I" } : Jvm.MethodName)) ∈ lw_tbl := lw_at lw_m13 71 rfl
theorem q3070 : (Jvm.Cond.instanceMethod ({ cls := "FairHouseModel", name := "byteAt", desc := "(I)I" } : Jvm.MethodName)) ∈ lw_all := lw_g (lw_at lw_m13 72 rfl) rfl
theorem q3071 : (Jvm.Cond.code ({ cls := "FairHouseModel", name := "byteAt", desc := "(I)I" } : Jvm.MethodName) prog_42_method_6_code (2 : Nat) (Option.some Jvm.ClassFile.FieldType.int)) ∈ lw_all := lw_g (lw_at lw_m13 73 rfl) rfl
theorem q3072 : (Jvm.Cond.methodLink "FairHouseModel" (316 : Nat) ({ cls := "FairHouseModel", name := "isDigit", desc := "(I)Z" } : Jvm.MethodName)) ∈ lw_all := lw_g (lw_at lw_m13 74 rfl) rfl
theorem q3073 : (Jvm.Cond.static ({ cls := "FairHouseModel", name := "isDigit", desc := "(I)Z" } : Jvm.MethodName)) ∈ lw_all := lw_g (lw_at lw_m13 75 rfl) rfl
theorem q3074 : (Jvm.Cond.code ({ cls := "FairHouseModel", name := "isDigit", desc := "(I)Z" } : Jvm.MethodName) prog_42_method_5_code (1 : Nat) (Option.some Jvm.ClassFile.FieldType.boolean)) ∈ lw_all := lw_g (lw_at lw_m13 76 rfl) rfl
theorem q3075 : (Jvm.Cond.methodLink "FairHouseModel" (330 : Nat) ({ cls := "java/lang/String", name := "length", desc := "()I" } : Jvm.MethodName)) ∈ lw_all := lw_g (lw_at lw_m13 77 rfl) rfl
theorem q3076 : (Jvm.Cond.methodLink "FairHouseModel" (334 : Nat) ({ cls := "java/lang/String", name := "charAt", desc := "(I)C" } : Jvm.MethodName)) ∈ lw_all := lw_g (lw_at lw_m13 78 rfl) rfl
theorem q3077 : (Jvm.Cond.methodLink "FairHouseModel" (319 : Nat) ({ cls := "FairHouseModel", name := "readNumber", desc := "()V" } : Jvm.MethodName)) ∈ lw_all := lw_g (lw_at lw_m13 79 rfl) rfl
theorem q3078 : (Jvm.Cond.privateMethod ({ cls := "FairHouseModel", name := "readNumber", desc := "()V" } : Jvm.MethodName)) ∈ lw_tbl := lw_at lw_m13 80 rfl
theorem q3079 : (Jvm.Cond.instanceMethod ({ cls := "FairHouseModel", name := "readNumber", desc := "()V" } : Jvm.MethodName)) ∈ lw_all := lw_g (lw_at lw_m13 81 rfl) rfl
theorem q3080 : (Jvm.Cond.code ({ cls := "FairHouseModel", name := "readNumber", desc := "()V" } : Jvm.MethodName) prog_42_method_9_code (1 : Nat) (Option.none : Option Jvm.ClassFile.FieldType)) ∈ lw_all := lw_g (lw_at lw_m13 82 rfl) rfl
theorem q3081 : (Jvm.Cond.methodLink "FairHouseModel" (322 : Nat) ({ cls := "FairHouseModel", name := "readSign", desc := "(I)V" } : Jvm.MethodName)) ∈ lw_all := lw_g (lw_at lw_m13 83 rfl) rfl
theorem q3082 : (Jvm.Cond.privateMethod ({ cls := "FairHouseModel", name := "readSign", desc := "(I)V" } : Jvm.MethodName)) ∈ lw_tbl := lw_at lw_m13 84 rfl
theorem q3083 : (Jvm.Cond.instanceMethod ({ cls := "FairHouseModel", name := "readSign", desc := "(I)V" } : Jvm.MethodName)) ∈ lw_all := lw_g (lw_at lw_m13 85 rfl) rfl
theorem q3084 : (Jvm.Cond.code ({ cls := "FairHouseModel", name := "readSign", desc := "(I)V" } : Jvm.MethodName) prog_42_method_10_code (4 : Nat) (Option.none : Option Jvm.ClassFile.FieldType)) ∈ lw_all := lw_g (lw_at lw_m13 86 rfl) rfl
theorem q3085 : (Jvm.Cond.methodLink "FairHouseModel" (358 : Nat) ({ cls := "FairHouseModel", name := "declaration", desc := "()V" } : Jvm.MethodName)) ∈ lw_all := lw_g (lw_at lw_m13 87 rfl) rfl
theorem q3086 : (Jvm.Cond.privateMethod ({ cls := "FairHouseModel", name := "declaration", desc := "()V" } : Jvm.MethodName)) ∈ lw_tbl := lw_at lw_m13 88 rfl
theorem q3087 : (Jvm.Cond.instanceMethod ({ cls := "FairHouseModel", name := "declaration", desc := "()V" } : Jvm.MethodName)) ∈ lw_all := lw_g (lw_at lw_m13 89 rfl) rfl
theorem q3088 : (Jvm.Cond.code ({ cls := "FairHouseModel", name := "declaration", desc := "()V" } : Jvm.MethodName) prog_42_method_19_code (3 : Nat) (Option.none : Option Jvm.ClassFile.FieldType)) ∈ lw_all := lw_g (lw_at lw_m13 90 rfl) rfl
theorem q3089 : (Jvm.Cond.methodLink "FairHouseModel" (344 : Nat) ({ cls := "FairHouseModel", name := "wrong", desc := "(II)V" } : Jvm.MethodName)) ∈ lw_all := lw_g (lw_at lw_m13 91 rfl) rfl
theorem q3090 : (Jvm.Cond.privateMethod ({ cls := "FairHouseModel", name := "wrong", desc := "(II)V" } : Jvm.MethodName)) ∈ lw_tbl := lw_at lw_m13 92 rfl
theorem q3091 : (Jvm.Cond.instanceMethod ({ cls := "FairHouseModel", name := "wrong", desc := "(II)V" } : Jvm.MethodName)) ∈ lw_all := lw_g (lw_at lw_m13 93 rfl) rfl
theorem q3092 : (Jvm.Cond.code ({ cls := "FairHouseModel", name := "wrong", desc := "(II)V" } : Jvm.MethodName) prog_42_method_3_code (3 : Nat) (Option.none : Option Jvm.ClassFile.FieldType)) ∈ lw_all := lw_g (lw_at lw_m13 94 rfl) rfl
theorem q3093 : (Jvm.Cond.methodLink "FairHouseModel" (376 : Nat) ({ cls := "FairHouseModel", name := "numberIn", desc := "(II)I" } : Jvm.MethodName)) ∈ lw_all := lw_g (lw_at lw_m13 95 rfl) rfl
theorem q3094 : (Jvm.Cond.privateMethod ({ cls := "FairHouseModel", name := "numberIn", desc := "(II)I" } : Jvm.MethodName)) ∈ lw_tbl := lw_at lw_m13 96 rfl
theorem q3095 : (Jvm.Cond.instanceMethod ({ cls := "FairHouseModel", name := "numberIn", desc := "(II)I" } : Jvm.MethodName)) ∈ lw_all := lw_g (lw_at lw_m13 97 rfl) rfl
theorem q3096 : (Jvm.Cond.code ({ cls := "FairHouseModel", name := "numberIn", desc := "(II)I" } : Jvm.MethodName) prog_42_method_17_code (4 : Nat) (Option.some Jvm.ClassFile.FieldType.int)) ∈ lw_all := lw_g (lw_at lw_m13 98 rfl) rfl
theorem q3097 : (Jvm.Cond.methodLink "FairHouseModel" (381 : Nat) ({ cls := "FairHouseModel", name := "newName", desc := "(II)Z" } : Jvm.MethodName)) ∈ lw_all := lw_g (lw_at lw_m13 99 rfl) rfl
theorem q3098 : (Jvm.Cond.privateMethod ({ cls := "FairHouseModel", name := "newName", desc := "(II)Z" } : Jvm.MethodName)) ∈ lw_tbl := lw_at lw_m13 100 rfl
theorem q3099 : (Jvm.Cond.instanceMethod ({ cls := "FairHouseModel", name := "newName", desc := "(II)Z" } : Jvm.MethodName)) ∈ lw_all := lw_g (lw_at lw_m13 101 rfl) rfl
theorem q3100 : (Jvm.Cond.code ({ cls := "FairHouseModel", name := "newName", desc := "(II)Z" } : Jvm.MethodName) prog_42_method_15_code (3 : Nat) (Option.some Jvm.ClassFile.FieldType.boolean)) ∈ lw_all := lw_g (lw_at lw_m13 102 rfl) rfl
theorem q3101 : (Jvm.Cond.methodLink "FairHouseModel" (354 : Nat) ({ cls := "FairHouseModel", name := "known", desc := "(II)I" } : Jvm.MethodName)) ∈ lw_all := lw_g (lw_at lw_m13 103 rfl) rfl
theorem q3102 : (Jvm.Cond.privateMethod ({ cls := "FairHouseModel", name := "known", desc := "(II)I" } : Jvm.MethodName)) ∈ lw_tbl := lw_at lw_m13 104 rfl
theorem q3103 : (Jvm.Cond.instanceMethod ({ cls := "FairHouseModel", name := "known", desc := "(II)I" } : Jvm.MethodName)) ∈ lw_all := lw_g (lw_at lw_m13 105 rfl) rfl
theorem q3104 : (Jvm.Cond.code ({ cls := "FairHouseModel", name := "known", desc := "(II)I" } : Jvm.MethodName) prog_42_method_14_code (7 : Nat) (Option.some Jvm.ClassFile.FieldType.int)) ∈ lw_all := lw_g (lw_at lw_m13 106 rfl) rfl
theorem q3105 : (Jvm.Cond.methodLink "FairHouseModel" (385 : Nat) ({ cls := "FairHouseModel", name := "ride", desc := "()V" } : Jvm.MethodName)) ∈ lw_all := lw_g (lw_at lw_m13 107 rfl) rfl
theorem q3106 : (Jvm.Cond.privateMethod ({ cls := "FairHouseModel", name := "ride", desc := "()V" } : Jvm.MethodName)) ∈ lw_tbl := lw_at lw_m13 108 rfl
theorem q3107 : (Jvm.Cond.instanceMethod ({ cls := "FairHouseModel", name := "ride", desc := "()V" } : Jvm.MethodName)) ∈ lw_all := lw_g (lw_at lw_m13 109 rfl) rfl
theorem q3108 : (Jvm.Cond.code ({ cls := "FairHouseModel", name := "ride", desc := "()V" } : Jvm.MethodName) prog_42_method_20_code (3 : Nat) (Option.none : Option Jvm.ClassFile.FieldType)) ∈ lw_all := lw_g (lw_at lw_m13 110 rfl) rfl
theorem q3109 : (Jvm.Cond.methodLink "FairHouseModel" (390 : Nat) ({ cls := "FairHouseModel", name := "lead", desc := "(I)V" } : Jvm.MethodName)) ∈ lw_all := lw_g (lw_at lw_m13 111 rfl) rfl
theorem q3110 : (Jvm.Cond.privateMethod ({ cls := "FairHouseModel", name := "lead", desc := "(I)V" } : Jvm.MethodName)) ∈ lw_tbl := lw_at lw_m13 112 rfl
theorem q3111 : (Jvm.Cond.instanceMethod ({ cls := "FairHouseModel", name := "lead", desc := "(I)V" } : Jvm.MethodName)) ∈ lw_all := lw_g (lw_at lw_m13 113 rfl) rfl
theorem q3112 : (Jvm.Cond.code ({ cls := "FairHouseModel", name := "lead", desc := "(I)V" } : Jvm.MethodName) prog_42_method_21_code (4 : Nat) (Option.none : Option Jvm.ClassFile.FieldType)) ∈ lw_all := lw_g (lw_at lw_m13 114 rfl) rfl
theorem q3113 : (Jvm.Cond.methodLink "FairHouseModel" (411 : Nat) ({ cls := "FairHouseModel", name := "oldName", desc := "(I)I" } : Jvm.MethodName)) ∈ lw_all := lw_g (lw_at lw_m13 115 rfl) rfl
theorem q3114 : (Jvm.Cond.privateMethod ({ cls := "FairHouseModel", name := "oldName", desc := "(I)I" } : Jvm.MethodName)) ∈ lw_tbl := lw_at lw_m13 116 rfl
theorem q3115 : (Jvm.Cond.instanceMethod ({ cls := "FairHouseModel", name := "oldName", desc := "(I)I" } : Jvm.MethodName)) ∈ lw_all := lw_g (lw_at lw_m13 117 rfl) rfl
theorem q3116 : (Jvm.Cond.code ({ cls := "FairHouseModel", name := "oldName", desc := "(I)I" } : Jvm.MethodName) prog_42_method_16_code (3 : Nat) (Option.some Jvm.ClassFile.FieldType.int)) ∈ lw_all := lw_g (lw_at lw_m13 118 rfl) rfl
theorem q3117 : (Jvm.Cond.methodLink "FairHouseModel" (404 : Nat) ({ cls := "FairHouseModel", name := "block", desc := "(II)Z" } : Jvm.MethodName)) ∈ lw_all := lw_g (lw_at lw_m13 119 rfl) rfl
theorem q3118 : (Jvm.Cond.privateMethod ({ cls := "FairHouseModel", name := "block", desc := "(II)Z" } : Jvm.MethodName)) ∈ lw_tbl := lw_at lw_m13 120 rfl
theorem q3119 : (Jvm.Cond.instanceMethod ({ cls := "FairHouseModel", name := "block", desc := "(II)Z" } : Jvm.MethodName)) ∈ lw_all := lw_g (lw_at lw_m13 121 rfl) rfl
theorem q3120 : (Jvm.Cond.code ({ cls := "FairHouseModel", name := "block", desc := "(II)Z" } : Jvm.MethodName) prog_42_method_23_code (3 : Nat) (Option.some Jvm.ClassFile.FieldType.boolean)) ∈ lw_all := lw_g (lw_at lw_m13 122 rfl) rfl
theorem q3121 : (Jvm.Cond.methodLink "FairHouseModel" (341 : Nat) ({ cls := "FairHouseModel", name := "isSign", desc := "(I)Z" } : Jvm.MethodName)) ∈ lw_all := lw_g (lw_at lw_m13 123 rfl) rfl
theorem q3122 : (Jvm.Cond.privateMethod ({ cls := "FairHouseModel", name := "isSign", desc := "(I)Z" } : Jvm.MethodName)) ∈ lw_tbl := lw_at lw_m13 124 rfl
theorem q3123 : (Jvm.Cond.instanceMethod ({ cls := "FairHouseModel", name := "isSign", desc := "(I)Z" } : Jvm.MethodName)) ∈ lw_all := lw_g (lw_at lw_m13 125 rfl) rfl
theorem q3124 : (Jvm.Cond.code ({ cls := "FairHouseModel", name := "isSign", desc := "(I)Z" } : Jvm.MethodName) prog_42_method_11_code (2 : Nat) (Option.some Jvm.ClassFile.FieldType.boolean)) ∈ lw_all := lw_g (lw_at lw_m13 126 rfl) rfl
theorem q3125 : (Jvm.Cond.methodLink "FairHouseModel" (414 : Nat) ({ cls := "FairHouseModel", name := "step", desc := "(II)V" } : Jvm.MethodName)) ∈ lw_all := lw_g (lw_at lw_m13 127 rfl) rfl
theorem q3126 : (Jvm.Cond.privateMethod ({ cls := "FairHouseModel", name := "step", desc := "(II)V" } : Jvm.MethodName)) ∈ lw_tbl := lw_at lw_m13 128 rfl
theorem q3127 : (Jvm.Cond.instanceMethod ({ cls := "FairHouseModel", name := "step", desc := "(II)V" } : Jvm.MethodName)) ∈ lw_all := lw_g (lw_at lw_m13 129 rfl) rfl
theorem q3128 : (Jvm.Cond.code ({ cls := "FairHouseModel", name := "step", desc := "(II)V" } : Jvm.MethodName) prog_42_method_26_code (5 : Nat) (Option.none : Option Jvm.ClassFile.FieldType)) ∈ lw_all := lw_g (lw_at lw_m13 130 rfl) rfl
theorem q3129 : (Jvm.Cond.methodLink "FairHouseModel" (417 : Nat) ({ cls := "FairHouseModel", name := "isStep", desc := "(I)Z" } : Jvm.MethodName)) ∈ lw_all := lw_g (lw_at lw_m13 131 rfl) rfl
theorem q3130 : (Jvm.Cond.static ({ cls := "FairHouseModel", name := "isStep", desc := "(I)Z" } : Jvm.MethodName)) ∈ lw_all := lw_g (lw_at lw_m13 132 rfl) rfl
theorem q3131 : (Jvm.Cond.code ({ cls := "FairHouseModel", name := "isStep", desc := "(I)Z" } : Jvm.MethodName) prog_42_method_24_code (1 : Nat) (Option.some Jvm.ClassFile.FieldType.boolean)) ∈ lw_all := lw_g (lw_at lw_m13 133 rfl) rfl
theorem q3132 : (Jvm.Cond.methodLink "FairHouseModel" (420 : Nat) ({ cls := "FairHouseModel", name := "fits", desc := "(I)Z" } : Jvm.MethodName)) ∈ lw_all := lw_g (lw_at lw_m13 134 rfl) rfl
theorem q3133 : (Jvm.Cond.privateMethod ({ cls := "FairHouseModel", name := "fits", desc := "(I)Z" } : Jvm.MethodName)) ∈ lw_tbl := lw_at lw_m13 135 rfl
theorem q3134 : (Jvm.Cond.instanceMethod ({ cls := "FairHouseModel", name := "fits", desc := "(I)Z" } : Jvm.MethodName)) ∈ lw_all := lw_g (lw_at lw_m13 136 rfl) rfl
theorem q3135 : (Jvm.Cond.code ({ cls := "FairHouseModel", name := "fits", desc := "(I)Z" } : Jvm.MethodName) prog_42_method_25_code (3 : Nat) (Option.some Jvm.ClassFile.FieldType.boolean)) ∈ lw_all := lw_g (lw_at lw_m13 137 rfl) rfl
theorem q3136 : (Jvm.Cond.methodLink "FairHouseModel" (423 : Nat) ({ cls := "FairHouseModel", name := "blocks", desc := "(IIII)V" } : Jvm.MethodName)) ∈ lw_all := lw_g (lw_at lw_m13 138 rfl) rfl
theorem q3137 : (Jvm.Cond.privateMethod ({ cls := "FairHouseModel", name := "blocks", desc := "(IIII)V" } : Jvm.MethodName)) ∈ lw_tbl := lw_at lw_m13 139 rfl
theorem q3138 : (Jvm.Cond.instanceMethod ({ cls := "FairHouseModel", name := "blocks", desc := "(IIII)V" } : Jvm.MethodName)) ∈ lw_all := lw_g (lw_at lw_m13 140 rfl) rfl
theorem q3139 : (Jvm.Cond.code ({ cls := "FairHouseModel", name := "blocks", desc := "(IIII)V" } : Jvm.MethodName) prog_42_method_27_code (8 : Nat) (Option.none : Option Jvm.ClassFile.FieldType)) ∈ lw_all := lw_g (lw_at lw_m13 141 rfl) rfl
theorem q3140 : (Jvm.Cond.methodLink "FairHouseModel" (427 : Nat) ({ cls := "FairHouseModel", name := "expression", desc := "()I" } : Jvm.MethodName)) ∈ lw_all := lw_g (lw_at lw_m13 142 rfl) rfl
theorem q3141 : (Jvm.Cond.privateMethod ({ cls := "FairHouseModel", name := "expression", desc := "()I" } : Jvm.MethodName)) ∈ lw_tbl := lw_at lw_m13 143 rfl
theorem q3142 : (Jvm.Cond.instanceMethod ({ cls := "FairHouseModel", name := "expression", desc := "()I" } : Jvm.MethodName)) ∈ lw_all := lw_g (lw_at lw_m13 144 rfl) rfl
theorem q3143 : (Jvm.Cond.code ({ cls := "FairHouseModel", name := "expression", desc := "()I" } : Jvm.MethodName) prog_42_method_29_code (2 : Nat) (Option.some Jvm.ClassFile.FieldType.int)) ∈ lw_all := lw_g (lw_at lw_m13 145 rfl) rfl
theorem q3144 : (Jvm.Cond.methodLink "FairHouseModel" (439 : Nat) ({ cls := "FairHouseModel", name := "sum", desc := "()V" } : Jvm.MethodName)) ∈ lw_all := lw_g (lw_at lw_m13 146 rfl) rfl
theorem q3145 : (Jvm.Cond.privateMethod ({ cls := "FairHouseModel", name := "sum", desc := "()V" } : Jvm.MethodName)) ∈ lw_tbl := lw_at lw_m13 147 rfl
theorem q3146 : (Jvm.Cond.instanceMethod ({ cls := "FairHouseModel", name := "sum", desc := "()V" } : Jvm.MethodName)) ∈ lw_all := lw_g (lw_at lw_m13 148 rfl) rfl
theorem q3147 : (Jvm.Cond.code ({ cls := "FairHouseModel", name := "sum", desc := "()V" } : Jvm.MethodName) prog_42_method_30_code (2 : Nat) (Option.none : Option Jvm.ClassFile.FieldType)) ∈ lw_all := lw_g (lw_at lw_m13 149 rfl) rfl
theorem q3148 : (Jvm.Cond.methodLink "FairHouseModel" (446 : Nat) ({ cls := "FairHouseModel", name := "product", desc := "()V" } : Jvm.MethodName)) ∈ lw_all := lw_g (lw_at lw_m13 150 rfl) rfl
theorem q3149 : (Jvm.Cond.privateMethod ({ cls := "FairHouseModel", name := "product", desc := "()V" } : Jvm.MethodName)) ∈ lw_tbl := lw_at lw_m13 151 rfl
theorem q3150 : (Jvm.Cond.instanceMethod ({ cls := "FairHouseModel", name := "product", desc := "()V" } : Jvm.MethodName)) ∈ lw_all := lw_g (lw_at lw_m13 152 rfl) rfl
theorem q3151 : (Jvm.Cond.code ({ cls := "FairHouseModel", name := "product", desc := "()V" } : Jvm.MethodName) prog_42_method_31_code (2 : Nat) (Option.none : Option Jvm.ClassFile.FieldType)) ∈ lw_all := lw_g (lw_at lw_m13 153 rfl) rfl
theorem q3152 : (Jvm.Cond.methodLink "FairHouseModel" (449 : Nat) ({ cls := "FairHouseModel", name := "factor", desc := "()V" } : Jvm.MethodName)) ∈ lw_all := lw_g (lw_at lw_m13 154 rfl) rfl
theorem q3153 : (Jvm.Cond.privateMethod ({ cls := "FairHouseModel", name := "factor", desc := "()V" } : Jvm.MethodName)) ∈ lw_tbl := lw_at lw_m13 155 rfl
theorem q3154 : (Jvm.Cond.instanceMethod ({ cls := "FairHouseModel", name := "factor", desc := "()V" } : Jvm.MethodName)) ∈ lw_all := lw_g (lw_at lw_m13 156 rfl) rfl
theorem q3155 : (Jvm.Cond.code ({ cls := "FairHouseModel", name := "factor", desc := "()V" } : Jvm.MethodName) prog_42_method_32_code (2 : Nat) (Option.none : Option Jvm.ClassFile.FieldType)) ∈ lw_all := lw_g (lw_at lw_m13 157 rfl) rfl
theorem q3156 : (Jvm.Cond.methodLink "FairHouseModel" (442 : Nat) ({ cls := "FairHouseModel", name := "newCode", desc := "(III)V" } : Jvm.MethodName)) ∈ lw_all := lw_g (lw_at lw_m13 158 rfl) rfl
theorem q3157 : (Jvm.Cond.privateMethod ({ cls := "FairHouseModel", name := "newCode", desc := "(III)V" } : Jvm.MethodName)) ∈ lw_tbl := lw_at lw_m13 159 rfl
theorem q3158 : (Jvm.Cond.instanceMethod ({ cls := "FairHouseModel", name := "newCode", desc := "(III)V" } : Jvm.MethodName)) ∈ lw_all := lw_g (lw_at lw_m13 160 rfl) rfl
theorem q3159 : (Jvm.Cond.code ({ cls := "FairHouseModel", name := "newCode", desc := "(III)V" } : Jvm.MethodName) prog_42_method_28_code (4 : Nat) (Option.none : Option Jvm.ClassFile.FieldType)) ∈ lw_all := lw_g (lw_at lw_m13 161 rfl) rfl
theorem q3160 : (Jvm.Cond.methodLink "FairHouseModel" (387 : Nat) ({ cls := "FairHouseModel", name := "need", desc := "(I)Z" } : Jvm.MethodName)) ∈ lw_all := lw_g (lw_at lw_m13 162 rfl) rfl
theorem q3161 : (Jvm.Cond.privateMethod ({ cls := "FairHouseModel", name := "need", desc := "(I)Z" } : Jvm.MethodName)) ∈ lw_tbl := lw_at lw_m13 163 rfl
theorem q3162 : (Jvm.Cond.instanceMethod ({ cls := "FairHouseModel", name := "need", desc := "(I)Z" } : Jvm.MethodName)) ∈ lw_all := lw_g (lw_at lw_m13 164 rfl) rfl
theorem q3163 : (Jvm.Cond.code ({ cls := "FairHouseModel", name := "need", desc := "(I)Z" } : Jvm.MethodName) prog_42_method_13_code (2 : Nat) (Option.some Jvm.ClassFile.FieldType.boolean)) ∈ lw_all := lw_g (lw_at lw_m13 165 rfl) rfl
theorem q3164 : (Jvm.Cond.methodLink "FairHouseModel" (452 : Nat) ({ cls := "FairHouseModel", name := "wordFactor", desc := "()V" } : Jvm.MethodName)) ∈ lw_all := lw_g (lw_at lw_m13 166 rfl) rfl
theorem q3165 : (Jvm.Cond.privateMethod ({ cls := "FairHouseModel", name := "wordFactor", desc := "()V" } : Jvm.MethodName)) ∈ lw_tbl := lw_at lw_m13 167 rfl
theorem q3166 : (Jvm.Cond.instanceMethod ({ cls := "FairHouseModel", name := "wordFactor", desc := "()V" } : Jvm.MethodName)) ∈ lw_all := lw_g (lw_at lw_m13 168 rfl) rfl
theorem q3167 : (Jvm.Cond.code ({ cls := "FairHouseModel", name := "wordFactor", desc := "()V" } : Jvm.MethodName) prog_42_method_34_code (4 : Nat) (Option.none : Option Jvm.ClassFile.FieldType)) ∈ lw_all := lw_g (lw_at lw_m13 169 rfl) rfl
theorem q3168 : (Jvm.Cond.methodLink "FairHouseModel" (455 : Nat) ({ cls := "FairHouseModel", name := "measureOf", desc := "()I" } : Jvm.MethodName)) ∈ lw_all := lw_g (lw_at lw_m13 170 rfl) rfl
theorem q3169 : (Jvm.Cond.privateMethod ({ cls := "FairHouseModel", name := "measureOf", desc := "()I" } : Jvm.MethodName)) ∈ lw_tbl := lw_at lw_m13 171 rfl
theorem q3170 : (Jvm.Cond.instanceMethod ({ cls := "FairHouseModel", name := "measureOf", desc := "()I" } : Jvm.MethodName)) ∈ lw_all := lw_g (lw_at lw_m13 172 rfl) rfl
theorem q3171 : (Jvm.Cond.code ({ cls := "FairHouseModel", name := "measureOf", desc := "()I" } : Jvm.MethodName) prog_42_method_33_code (1 : Nat) (Option.some Jvm.ClassFile.FieldType.int)) ∈ lw_all := lw_g (lw_at lw_m13 173 rfl) rfl
theorem q3172 : (Jvm.Cond.methodLink "FairHouseModel" (407 : Nat) ({ cls := "FairHouseModel", name := "newOp", desc := "(IIIIII)I" } : Jvm.MethodName)) ∈ lw_all := lw_g (lw_at lw_m13 174 rfl) rfl
theorem q3173 : (Jvm.Cond.privateMethod ({ cls := "FairHouseModel", name := "newOp", desc := "(IIIIII)I" } : Jvm.MethodName)) ∈ lw_tbl := lw_at lw_m13 175 rfl
theorem q3174 : (Jvm.Cond.instanceMethod ({ cls := "FairHouseModel", name := "newOp", desc := "(IIIIII)I" } : Jvm.MethodName)) ∈ lw_all := lw_g (lw_at lw_m13 176 rfl) rfl
theorem q3175 : (Jvm.Cond.code ({ cls := "FairHouseModel", name := "newOp", desc := "(IIIIII)I" } : Jvm.MethodName) prog_42_method_22_code (7 : Nat) (Option.some Jvm.ClassFile.FieldType.int)) ∈ lw_all := lw_g (lw_at lw_m13 177 rfl) rfl
theorem q3176 : (Jvm.Cond.methodLink "FairHouseModel" (430 : Nat) ({ cls := "FairHouseModel", name := "condition", desc := "()I" } : Jvm.MethodName)) ∈ lw_all := lw_g (lw_at lw_m13 178 rfl) rfl
theorem q3177 : (Jvm.Cond.privateMethod ({ cls := "FairHouseModel", name := "condition", desc := "()I" } : Jvm.MethodName)) ∈ lw_tbl := lw_at lw_m13 179 rfl
theorem q3178 : (Jvm.Cond.instanceMethod ({ cls := "FairHouseModel", name := "condition", desc := "()I" } : Jvm.MethodName)) ∈ lw_all := lw_g (lw_at lw_m13 180 rfl) rfl
theorem q3179 : (Jvm.Cond.code ({ cls := "FairHouseModel", name := "condition", desc := "()I" } : Jvm.MethodName) prog_42_method_35_code (3 : Nat) (Option.some Jvm.ClassFile.FieldType.int)) ∈ lw_all := lw_g (lw_at lw_m13 181 rfl) rfl
theorem q3180 : (Jvm.Cond.methodLink "FairHouseModel" (461 : Nat) ({ cls := "FairHouseModel", name := "question", desc := "()V" } : Jvm.MethodName)) ∈ lw_all := lw_g (lw_at lw_m13 182 rfl) rfl
theorem q3181 : (Jvm.Cond.privateMethod ({ cls := "FairHouseModel", name := "question", desc := "()V" } : Jvm.MethodName)) ∈ lw_tbl := lw_at lw_m13 183 rfl
theorem q3182 : (Jvm.Cond.instanceMethod ({ cls := "FairHouseModel", name := "question", desc := "()V" } : Jvm.MethodName)) ∈ lw_all := lw_g (lw_at lw_m13 184 rfl) rfl
theorem q3183 : (Jvm.Cond.code ({ cls := "FairHouseModel", name := "question", desc := "()V" } : Jvm.MethodName) prog_42_method_36_code (6 : Nat) (Option.none : Option Jvm.ClassFile.FieldType)) ∈ lw_all := lw_g (lw_at lw_m13 185 rfl) rfl
theorem q3184 : (Jvm.Cond.methodLink "FairHouseModel" (433 : Nat) ({ cls := "FairHouseModel", name := "isWord", desc := "(I)Z" } : Jvm.MethodName)) ∈ lw_all := lw_g (lw_at lw_m13 186 rfl) rfl
theorem q3185 : (Jvm.Cond.privateMethod ({ cls := "FairHouseModel", name := "isWord", desc := "(I)Z" } : Jvm.MethodName)) ∈ lw_tbl := lw_at lw_m13 187 rfl
theorem q3186 : (Jvm.Cond.instanceMethod ({ cls := "FairHouseModel", name := "isWord", desc := "(I)Z" } : Jvm.MethodName)) ∈ lw_all := lw_g (lw_at lw_m13 188 rfl) rfl
theorem q3187 : (Jvm.Cond.code ({ cls := "FairHouseModel", name := "isWord", desc := "(I)Z" } : Jvm.MethodName) prog_42_method_12_code (2 : Nat) (Option.some Jvm.ClassFile.FieldType.boolean)) ∈ lw_all := lw_g (lw_at lw_m13 189 rfl) rfl
theorem q3188 : (Jvm.Cond.methodLink "FairHouseModel" (578 : Nat) ({ cls := "FairHouseModel", name := "begin", desc := "()V" } : Jvm.MethodName)) ∈ lw_all := lw_g (lw_at lw_m13 190 rfl) rfl
theorem q3189 : (Jvm.Cond.privateMethod ({ cls := "FairHouseModel", name := "begin", desc := "()V" } : Jvm.MethodName)) ∈ lw_tbl := lw_at lw_m13 191 rfl
theorem q3190 : (Jvm.Cond.instanceMethod ({ cls := "FairHouseModel", name := "begin", desc := "()V" } : Jvm.MethodName)) ∈ lw_all := lw_g (lw_at lw_m13 192 rfl) rfl
theorem q3191 : (Jvm.Cond.code ({ cls := "FairHouseModel", name := "begin", desc := "()V" } : Jvm.MethodName) prog_42_method_51_code (2 : Nat) (Option.none : Option Jvm.ClassFile.FieldType)) ∈ lw_all := lw_g (lw_at lw_m13 193 rfl) rfl
theorem q3193 : (Jvm.Cond.instanceMethod ({ cls := "FairHouseModel", name := "fault", desc := "(I)I" } : Jvm.MethodName)) ∈ lw_all := lw_g (lw_at lw_m13 195 rfl) rfl
theorem q3194 : (Jvm.Cond.selects "FairHouseModel" ({ cls := "FairHouseModel", name := "fault", desc := "(I)I" } : Jvm.MethodName) ({ cls := "FairHouseModel", name := "fault", desc := "(I)I" } : Jvm.MethodName)) ∈ lw_all := lw_g (lw_at lw_m13 196 rfl) rfl
theorem q3195 : (Jvm.Cond.code ({ cls := "FairHouseModel", name := "fault", desc := "(I)I" } : Jvm.MethodName) prog_42_method_70_code (2 : Nat) (Option.some Jvm.ClassFile.FieldType.int)) ∈ lw_all := lw_g (lw_at lw_m13 197 rfl) rfl
theorem q3197 : (Jvm.Cond.instanceMethod ({ cls := "FairHouseModel", name := "count", desc := "(I)I" } : Jvm.MethodName)) ∈ lw_all := lw_g (lw_at lw_m13 199 rfl) rfl
theorem q3198 : (Jvm.Cond.selects "FairHouseModel" ({ cls := "FairHouseModel", name := "count", desc := "(I)I" } : Jvm.MethodName) ({ cls := "FairHouseModel", name := "count", desc := "(I)I" } : Jvm.MethodName)) ∈ lw_all := lw_g (lw_at lw_m13 200 rfl) rfl
theorem q3199 : (Jvm.Cond.code ({ cls := "FairHouseModel", name := "count", desc := "(I)I" } : Jvm.MethodName) prog_42_method_71_code (2 : Nat) (Option.some Jvm.ClassFile.FieldType.int)) ∈ lw_all := lw_g (lw_at lw_m13 201 rfl) rfl
theorem q3201 : (Jvm.Cond.instanceMethod ({ cls := "FairHouseModel", name := "open", desc := "()V" } : Jvm.MethodName)) ∈ lw_all := lw_g (lw_at lw_m13 203 rfl) rfl
theorem q3202 : (Jvm.Cond.selects "FairHouseModel" ({ cls := "FairHouseModel", name := "open", desc := "()V" } : Jvm.MethodName) ({ cls := "FairHouseModel", name := "open", desc := "()V" } : Jvm.MethodName)) ∈ lw_all := lw_g (lw_at lw_m13 204 rfl) rfl
theorem q3203 : (Jvm.Cond.code ({ cls := "FairHouseModel", name := "open", desc := "()V" } : Jvm.MethodName) prog_42_method_72_code (1 : Nat) (Option.none : Option Jvm.ClassFile.FieldType)) ∈ lw_all := lw_g (lw_at lw_m13 205 rfl) rfl
theorem q3205 : (Jvm.Cond.instanceMethod ({ cls := "FairHouseModel", name := "come", desc := "(II)I" } : Jvm.MethodName)) ∈ lw_all := lw_g (lw_at lw_m13 207 rfl) rfl
theorem q3206 : (Jvm.Cond.selects "FairHouseModel" ({ cls := "FairHouseModel", name := "come", desc := "(II)I" } : Jvm.MethodName) ({ cls := "FairHouseModel", name := "come", desc := "(II)I" } : Jvm.MethodName)) ∈ lw_all := lw_g (lw_at lw_m13 208 rfl) rfl
theorem q3207 : (Jvm.Cond.code ({ cls := "FairHouseModel", name := "come", desc := "(II)I" } : Jvm.MethodName) prog_42_method_75_code (4 : Nat) (Option.some Jvm.ClassFile.FieldType.int)) ∈ lw_all := lw_g (lw_at lw_m13 209 rfl) rfl
theorem q3208 : (Jvm.Cond.methodLink "FairHouseModel" (581 : Nat) ({ cls := "FairHouseModel", name := "isRide", desc := "(I)Z" } : Jvm.MethodName)) ∈ lw_all := lw_g (lw_at lw_m13 210 rfl) rfl
theorem q3209 : (Jvm.Cond.privateMethod ({ cls := "FairHouseModel", name := "isRide", desc := "(I)Z" } : Jvm.MethodName)) ∈ lw_tbl := lw_at lw_m13 211 rfl
theorem q3210 : (Jvm.Cond.instanceMethod ({ cls := "FairHouseModel", name := "isRide", desc := "(I)Z" } : Jvm.MethodName)) ∈ lw_all := lw_g (lw_at lw_m13 212 rfl) rfl
theorem q3211 : (Jvm.Cond.code ({ cls := "FairHouseModel", name := "isRide", desc := "(I)Z" } : Jvm.MethodName) prog_42_method_74_code (2 : Nat) (Option.some Jvm.ClassFile.FieldType.boolean)) ∈ lw_all := lw_g (lw_at lw_m13 213 rfl) rfl
theorem q3212 : (Jvm.Cond.methodLink "FairHouseModel" (491 : Nat) ({ cls := "FairHouseModel", name := "has", desc := "(II)Z" } : Jvm.MethodName)) ∈ lw_all := lw_g (lw_at lw_m13 214 rfl) rfl
theorem q3213 : (Jvm.Cond.privateMethod ({ cls := "FairHouseModel", name := "has", desc := "(II)Z" } : Jvm.MethodName)) ∈ lw_tbl := lw_at lw_m13 215 rfl
theorem q3214 : (Jvm.Cond.instanceMethod ({ cls := "FairHouseModel", name := "has", desc := "(II)Z" } : Jvm.MethodName)) ∈ lw_all := lw_g (lw_at lw_m13 216 rfl) rfl
theorem q3215 : (Jvm.Cond.code ({ cls := "FairHouseModel", name := "has", desc := "(II)Z" } : Jvm.MethodName) prog_42_method_44_code (3 : Nat) (Option.some Jvm.ClassFile.FieldType.boolean)) ∈ lw_all := lw_g (lw_at lw_m13 217 rfl) rfl
theorem q3216 : (Jvm.Cond.methodLink "FairHouseModel" (584 : Nat) ({ cls := "FairHouseModel", name := "may", desc := "(ZZ)Z" } : Jvm.MethodName)) ∈ lw_all := lw_g (lw_at lw_m13 218 rfl) rfl
theorem q3217 : (Jvm.Cond.privateMethod ({ cls := "FairHouseModel", name := "may", desc := "(ZZ)Z" } : Jvm.MethodName)) ∈ lw_tbl := lw_at lw_m13 219 rfl
theorem q3218 : (Jvm.Cond.instanceMethod ({ cls := "FairHouseModel", name := "may", desc := "(ZZ)Z" } : Jvm.MethodName)) ∈ lw_all := lw_g (lw_at lw_m13 220 rfl) rfl
theorem q3219 : (Jvm.Cond.code ({ cls := "FairHouseModel", name := "may", desc := "(ZZ)Z" } : Jvm.MethodName) prog_42_method_73_code (3 : Nat) (Option.some Jvm.ClassFile.FieldType.boolean)) ∈ lw_all := lw_g (lw_at lw_m13 221 rfl) rfl
theorem q3220 : (Jvm.Cond.methodLink "FairHouseModel" (464 : Nat) ({ cls := "FairHouseModel", name := "queue", desc := "(I)I" } : Jvm.MethodName)) ∈ lw_all := lw_g (lw_at lw_m13 222 rfl) rfl
theorem q3221 : (Jvm.Cond.privateMethod ({ cls := "FairHouseModel", name := "queue", desc := "(I)I" } : Jvm.MethodName)) ∈ lw_tbl := lw_at lw_m13 223 rfl
theorem q3222 : (Jvm.Cond.instanceMethod ({ cls := "FairHouseModel", name := "queue", desc := "(I)I" } : Jvm.MethodName)) ∈ lw_all := lw_g (lw_at lw_m13 224 rfl) rfl
theorem q3223 : (Jvm.Cond.code ({ cls := "FairHouseModel", name := "queue", desc := "(I)I" } : Jvm.MethodName) prog_42_method_38_code (4 : Nat) (Option.some Jvm.ClassFile.FieldType.int)) ∈ lw_all := lw_g (lw_at lw_m13 225 rfl) rfl
theorem q3225 : (Jvm.Cond.instanceMethod ({ cls := "FairHouseModel", name := "wind", desc := "(I)I" } : Jvm.MethodName)) ∈ lw_all := lw_g (lw_at lw_m13 227 rfl) rfl
theorem q3226 : (Jvm.Cond.selects "FairHouseModel" ({ cls := "FairHouseModel", name := "wind", desc := "(I)I" } : Jvm.MethodName) ({ cls := "FairHouseModel", name := "wind", desc := "(I)I" } : Jvm.MethodName)) ∈ lw_all := lw_g (lw_at lw_m13 228 rfl) rfl
theorem q3227 : (Jvm.Cond.code ({ cls := "FairHouseModel", name := "wind", desc := "(I)I" } : Jvm.MethodName) prog_42_method_76_code (3 : Nat) (Option.some Jvm.ClassFile.FieldType.int)) ∈ lw_all := lw_g (lw_at lw_m13 229 rfl) rfl
theorem q3229 : (Jvm.Cond.instanceMethod ({ cls := "FairHouseModel", name := "tick", desc := "(I)I" } : Jvm.MethodName)) ∈ lw_all := lw_g (lw_at lw_m13 231 rfl) rfl
theorem q3230 : (Jvm.Cond.selects "FairHouseModel" ({ cls := "FairHouseModel", name := "tick", desc := "(I)I" } : Jvm.MethodName) ({ cls := "FairHouseModel", name := "tick", desc := "(I)I" } : Jvm.MethodName)) ∈ lw_all := lw_g (lw_at lw_m13 232 rfl) rfl
theorem q3231 : (Jvm.Cond.code ({ cls := "FairHouseModel", name := "tick", desc := "(I)I" } : Jvm.MethodName) prog_42_method_77_code (4 : Nat) (Option.some Jvm.ClassFile.FieldType.int)) ∈ lw_all := lw_g (lw_at lw_m13 233 rfl) rfl
theorem q3232 : (Jvm.Cond.methodLink "FairHouseModel" (588 : Nat) ({ cls := "FairHouseModel", name := "ticks", desc := "()V" } : Jvm.MethodName)) ∈ lw_all := lw_g (lw_at lw_m13 234 rfl) rfl
theorem q3233 : (Jvm.Cond.privateMethod ({ cls := "FairHouseModel", name := "ticks", desc := "()V" } : Jvm.MethodName)) ∈ lw_tbl := lw_at lw_m13 235 rfl
theorem q3234 : (Jvm.Cond.instanceMethod ({ cls := "FairHouseModel", name := "ticks", desc := "()V" } : Jvm.MethodName)) ∈ lw_all := lw_g (lw_at lw_m13 236 rfl) rfl
theorem q3235 : (Jvm.Cond.code ({ cls := "FairHouseModel", name := "ticks", desc := "()V" } : Jvm.MethodName) prog_42_method_67_code (3 : Nat) (Option.none : Option Jvm.ClassFile.FieldType)) ∈ lw_all := lw_g (lw_at lw_m13 237 rfl) rfl
theorem q3236 : (Jvm.Cond.methodLink "FairHouseModel" (544 : Nat) ({ cls := "FairHouseModel", name := "leaves", desc := "(I)V" } : Jvm.MethodName)) ∈ lw_all := lw_g (lw_at lw_m13 238 rfl) rfl
theorem q3237 : (Jvm.Cond.privateMethod ({ cls := "FairHouseModel", name := "leaves", desc := "(I)V" } : Jvm.MethodName)) ∈ lw_tbl := lw_at lw_m13 239 rfl
theorem q3238 : (Jvm.Cond.instanceMethod ({ cls := "FairHouseModel", name := "leaves", desc := "(I)V" } : Jvm.MethodName)) ∈ lw_all := lw_g (lw_at lw_m14 0 rfl) rfl
theorem q3239 : (Jvm.Cond.code ({ cls := "FairHouseModel", name := "leaves", desc := "(I)V" } : Jvm.MethodName) prog_42_method_62_code (3 : Nat) (Option.none : Option Jvm.ClassFile.FieldType)) ∈ lw_all := lw_g (lw_at lw_m14 1 rfl) rfl
theorem q3240 : (Jvm.Cond.methodLink "FairHouseModel" (512 : Nat) ({ cls := "FairHouseModel", name := "note", desc := "(III)V" } : Jvm.MethodName)) ∈ lw_all := lw_g (lw_at lw_m14 2 rfl) rfl
theorem q3241 : (Jvm.Cond.privateMethod ({ cls := "FairHouseModel", name := "note", desc := "(III)V" } : Jvm.MethodName)) ∈ lw_tbl := lw_at lw_m14 3 rfl
theorem q3242 : (Jvm.Cond.instanceMethod ({ cls := "FairHouseModel", name := "note", desc := "(III)V" } : Jvm.MethodName)) ∈ lw_all := lw_g (lw_at lw_m14 4 rfl) rfl
theorem q3243 : (Jvm.Cond.code ({ cls := "FairHouseModel", name := "note", desc := "(III)V" } : Jvm.MethodName) prog_42_method_52_code (4 : Nat) (Option.none : Option Jvm.ClassFile.FieldType)) ∈ lw_all := lw_g (lw_at lw_m14 5 rfl) rfl
theorem q3244 : (Jvm.Cond.methodLink "FairHouseModel" (554 : Nat) ({ cls := "FairHouseModel", name := "goesOn", desc := "(I)V" } : Jvm.MethodName)) ∈ lw_all := lw_g (lw_at lw_m14 6 rfl) rfl
theorem q3245 : (Jvm.Cond.privateMethod ({ cls := "FairHouseModel", name := "goesOn", desc := "(I)V" } : Jvm.MethodName)) ∈ lw_tbl := lw_at lw_m14 7 rfl
theorem q3246 : (Jvm.Cond.instanceMethod ({ cls := "FairHouseModel", name := "goesOn", desc := "(I)V" } : Jvm.MethodName)) ∈ lw_all := lw_g (lw_at lw_m14 8 rfl) rfl
theorem q3247 : (Jvm.Cond.code ({ cls := "FairHouseModel", name := "goesOn", desc := "(I)V" } : Jvm.MethodName) prog_42_method_56_code (4 : Nat) (Option.none : Option Jvm.ClassFile.FieldType)) ∈ lw_all := lw_g (lw_at lw_m14 9 rfl) rfl
theorem q3248 : (Jvm.Cond.methodLink "FairHouseModel" (509 : Nat) ({ cls := "FairHouseModel", name := "isOver", desc := "(I)V" } : Jvm.MethodName)) ∈ lw_all := lw_g (lw_at lw_m14 10 rfl) rfl
theorem q3249 : (Jvm.Cond.privateMethod ({ cls := "FairHouseModel", name := "isOver", desc := "(I)V" } : Jvm.MethodName)) ∈ lw_tbl := lw_at lw_m14 11 rfl
theorem q3250 : (Jvm.Cond.instanceMethod ({ cls := "FairHouseModel", name := "isOver", desc := "(I)V" } : Jvm.MethodName)) ∈ lw_all := lw_g (lw_at lw_m14 12 rfl) rfl
theorem q3251 : (Jvm.Cond.code ({ cls := "FairHouseModel", name := "isOver", desc := "(I)V" } : Jvm.MethodName) prog_42_method_54_code (2 : Nat) (Option.none : Option Jvm.ClassFile.FieldType)) ∈ lw_all := lw_g (lw_at lw_m14 13 rfl) rfl
theorem q3252 : (Jvm.Cond.methodLink "FairHouseModel" (518 : Nat) ({ cls := "FairHouseModel", name := "does", desc := "(I)Z" } : Jvm.MethodName)) ∈ lw_all := lw_g (lw_at lw_m14 14 rfl) rfl
theorem q3253 : (Jvm.Cond.privateMethod ({ cls := "FairHouseModel", name := "does", desc := "(I)Z" } : Jvm.MethodName)) ∈ lw_tbl := lw_at lw_m14 15 rfl
theorem q3254 : (Jvm.Cond.instanceMethod ({ cls := "FairHouseModel", name := "does", desc := "(I)Z" } : Jvm.MethodName)) ∈ lw_all := lw_g (lw_at lw_m14 16 rfl) rfl
theorem q3255 : (Jvm.Cond.code ({ cls := "FairHouseModel", name := "does", desc := "(I)Z" } : Jvm.MethodName) prog_42_method_57_code (5 : Nat) (Option.some Jvm.ClassFile.FieldType.boolean)) ∈ lw_all := lw_g (lw_at lw_m14 17 rfl) rfl
theorem q3256 : (Jvm.Cond.methodLink "FairHouseModel" (521 : Nat) ({ cls := "FairHouseModel", name := "takes", desc := "(II)Z" } : Jvm.MethodName)) ∈ lw_all := lw_g (lw_at lw_m14 18 rfl) rfl
theorem q3257 : (Jvm.Cond.privateMethod ({ cls := "FairHouseModel", name := "takes", desc := "(II)Z" } : Jvm.MethodName)) ∈ lw_tbl := lw_at lw_m14 19 rfl
theorem q3258 : (Jvm.Cond.instanceMethod ({ cls := "FairHouseModel", name := "takes", desc := "(II)Z" } : Jvm.MethodName)) ∈ lw_all := lw_g (lw_at lw_m14 20 rfl) rfl
theorem q3259 : (Jvm.Cond.code ({ cls := "FairHouseModel", name := "takes", desc := "(II)Z" } : Jvm.MethodName) prog_42_method_60_code (4 : Nat) (Option.some Jvm.ClassFile.FieldType.boolean)) ∈ lw_all := lw_g (lw_at lw_m14 21 rfl) rfl
theorem q3260 : (Jvm.Cond.methodLink "FairHouseModel" (485 : Nat) ({ cls := "FairHouseModel", name := "value", desc := "(II)I" } : Jvm.MethodName)) ∈ lw_all := lw_g (lw_at lw_m14 22 rfl) rfl
theorem q3261 : (Jvm.Cond.privateMethod ({ cls := "FairHouseModel", name := "value", desc := "(II)I" } : Jvm.MethodName)) ∈ lw_tbl := lw_at lw_m14 23 rfl
theorem q3262 : (Jvm.Cond.instanceMethod ({ cls := "FairHouseModel", name := "value", desc := "(II)I" } : Jvm.MethodName)) ∈ lw_all := lw_g (lw_at lw_m14 24 rfl) rfl
theorem q3263 : (Jvm.Cond.code ({ cls := "FairHouseModel", name := "value", desc := "(II)I" } : Jvm.MethodName) prog_42_method_40_code (4 : Nat) (Option.some Jvm.ClassFile.FieldType.int)) ∈ lw_all := lw_g (lw_at lw_m14 25 rfl) rfl
theorem q3264 : (Jvm.Cond.methodLink "FairHouseModel" (472 : Nat) ({ cls := "FairHouseModel", name := "push", desc := "(I)V" } : Jvm.MethodName)) ∈ lw_all := lw_g (lw_at lw_m14 26 rfl) rfl
theorem q3265 : (Jvm.Cond.privateMethod ({ cls := "FairHouseModel", name := "push", desc := "(I)V" } : Jvm.MethodName)) ∈ lw_tbl := lw_at lw_m14 27 rfl
theorem q3266 : (Jvm.Cond.instanceMethod ({ cls := "FairHouseModel", name := "push", desc := "(I)V" } : Jvm.MethodName)) ∈ lw_all := lw_g (lw_at lw_m14 28 rfl) rfl
theorem q3267 : (Jvm.Cond.code ({ cls := "FairHouseModel", name := "push", desc := "(I)V" } : Jvm.MethodName) prog_42_method_39_code (2 : Nat) (Option.none : Option Jvm.ClassFile.FieldType)) ∈ lw_all := lw_g (lw_at lw_m14 29 rfl) rfl
theorem q3268 : (Jvm.Cond.methodLink "FairHouseModel" (479 : Nat) ({ cls := "FairHouseModel", name := "measured", desc := "(II)I" } : Jvm.MethodName)) ∈ lw_all := lw_g (lw_at lw_m14 30 rfl) rfl
theorem q3269 : (Jvm.Cond.privateMethod ({ cls := "FairHouseModel", name := "measured", desc := "(II)I" } : Jvm.MethodName)) ∈ lw_tbl := lw_at lw_m14 31 rfl
theorem q3270 : (Jvm.Cond.instanceMethod ({ cls := "FairHouseModel", name := "measured", desc := "(II)I" } : Jvm.MethodName)) ∈ lw_all := lw_g (lw_at lw_m14 32 rfl) rfl
theorem q3271 : (Jvm.Cond.code ({ cls := "FairHouseModel", name := "measured", desc := "(II)I" } : Jvm.MethodName) prog_42_method_37_code (3 : Nat) (Option.some Jvm.ClassFile.FieldType.int)) ∈ lw_all := lw_g (lw_at lw_m14 33 rfl) rfl
theorem q3272 : (Jvm.Cond.methodLink "FairHouseModel" (482 : Nat) ({ cls := "FairHouseModel", name := "two", desc := "(I)V" } : Jvm.MethodName)) ∈ lw_all := lw_g (lw_at lw_m14 34 rfl) rfl
theorem q3273 : (Jvm.Cond.privateMethod ({ cls := "FairHouseModel", name := "two", desc := "(I)V" } : Jvm.MethodName)) ∈ lw_tbl := lw_at lw_m14 35 rfl
theorem q3274 : (Jvm.Cond.instanceMethod ({ cls := "FairHouseModel", name := "two", desc := "(I)V" } : Jvm.MethodName)) ∈ lw_all := lw_g (lw_at lw_m14 36 rfl) rfl
theorem q3275 : (Jvm.Cond.code ({ cls := "FairHouseModel", name := "two", desc := "(I)V" } : Jvm.MethodName) prog_42_method_41_code (4 : Nat) (Option.none : Option Jvm.ClassFile.FieldType)) ∈ lw_all := lw_g (lw_at lw_m14 37 rfl) rfl
theorem q3276 : (Jvm.Cond.methodLink "FairHouseModel" (530 : Nat) ({ cls := "FairHouseModel", name := "stalls", desc := "(II)V" } : Jvm.MethodName)) ∈ lw_all := lw_g (lw_at lw_m14 38 rfl) rfl
theorem q3277 : (Jvm.Cond.privateMethod ({ cls := "FairHouseModel", name := "stalls", desc := "(II)V" } : Jvm.MethodName)) ∈ lw_tbl := lw_at lw_m14 39 rfl
theorem q3278 : (Jvm.Cond.instanceMethod ({ cls := "FairHouseModel", name := "stalls", desc := "(II)V" } : Jvm.MethodName)) ∈ lw_all := lw_g (lw_at lw_m14 40 rfl) rfl
theorem q3279 : (Jvm.Cond.code ({ cls := "FairHouseModel", name := "stalls", desc := "(II)V" } : Jvm.MethodName) prog_42_method_55_code (5 : Nat) (Option.none : Option Jvm.ClassFile.FieldType)) ∈ lw_all := lw_g (lw_at lw_m14 41 rfl) rfl
theorem q3280 : (Jvm.Cond.methodLink "FairHouseModel" (515 : Nat) ({ cls := "FairHouseModel", name := "goTo", desc := "(II)V" } : Jvm.MethodName)) ∈ lw_all := lw_g (lw_at lw_m14 42 rfl) rfl
theorem q3281 : (Jvm.Cond.privateMethod ({ cls := "FairHouseModel", name := "goTo", desc := "(II)V" } : Jvm.MethodName)) ∈ lw_tbl := lw_at lw_m14 43 rfl
theorem q3282 : (Jvm.Cond.instanceMethod ({ cls := "FairHouseModel", name := "goTo", desc := "(II)V" } : Jvm.MethodName)) ∈ lw_all := lw_g (lw_at lw_m14 44 rfl) rfl
theorem q3283 : (Jvm.Cond.code ({ cls := "FairHouseModel", name := "goTo", desc := "(II)V" } : Jvm.MethodName) prog_42_method_53_code (5 : Nat) (Option.none : Option Jvm.ClassFile.FieldType)) ∈ lw_all := lw_g (lw_at lw_m14 45 rfl) rfl
theorem q3284 : (Jvm.Cond.methodLink "FairHouseModel" (538 : Nat) ({ cls := "FairHouseModel", name := "isCalm", desc := "(I)Z" } : Jvm.MethodName)) ∈ lw_all := lw_g (lw_at lw_m14 46 rfl) rfl
theorem q3285 : (Jvm.Cond.privateMethod ({ cls := "FairHouseModel", name := "isCalm", desc := "(I)Z" } : Jvm.MethodName)) ∈ lw_tbl := lw_at lw_m14 47 rfl
theorem q3286 : (Jvm.Cond.instanceMethod ({ cls := "FairHouseModel", name := "isCalm", desc := "(I)Z" } : Jvm.MethodName)) ∈ lw_all := lw_g (lw_at lw_m14 48 rfl) rfl
theorem q3287 : (Jvm.Cond.code ({ cls := "FairHouseModel", name := "isCalm", desc := "(I)Z" } : Jvm.MethodName) prog_42_method_49_code (5 : Nat) (Option.some Jvm.ClassFile.FieldType.boolean)) ∈ lw_all := lw_g (lw_at lw_m14 49 rfl) rfl
theorem q3288 : (Jvm.Cond.methodLink "FairHouseModel" (541 : Nat) ({ cls := "FairHouseModel", name := "board", desc := "(I)V" } : Jvm.MethodName)) ∈ lw_all := lw_g (lw_at lw_m14 50 rfl) rfl
theorem q3289 : (Jvm.Cond.privateMethod ({ cls := "FairHouseModel", name := "board", desc := "(I)V" } : Jvm.MethodName)) ∈ lw_tbl := lw_at lw_m14 51 rfl
theorem q3290 : (Jvm.Cond.instanceMethod ({ cls := "FairHouseModel", name := "board", desc := "(I)V" } : Jvm.MethodName)) ∈ lw_all := lw_g (lw_at lw_m14 52 rfl) rfl
theorem q3291 : (Jvm.Cond.code ({ cls := "FairHouseModel", name := "board", desc := "(I)V" } : Jvm.MethodName) prog_42_method_61_code (5 : Nat) (Option.none : Option Jvm.ClassFile.FieldType)) ∈ lw_all := lw_g (lw_at lw_m14 53 rfl) rfl
theorem q3292 : (Jvm.Cond.methodLink "FairHouseModel" (524 : Nat) ({ cls := "FairHouseModel", name := "shares", desc := "(II)Z" } : Jvm.MethodName)) ∈ lw_all := lw_g (lw_at lw_m14 54 rfl) rfl
theorem q3293 : (Jvm.Cond.privateMethod ({ cls := "FairHouseModel", name := "shares", desc := "(II)Z" } : Jvm.MethodName)) ∈ lw_tbl := lw_at lw_m14 55 rfl
theorem q3294 : (Jvm.Cond.instanceMethod ({ cls := "FairHouseModel", name := "shares", desc := "(II)Z" } : Jvm.MethodName)) ∈ lw_all := lw_g (lw_at lw_m14 56 rfl) rfl
theorem q3295 : (Jvm.Cond.code ({ cls := "FairHouseModel", name := "shares", desc := "(II)Z" } : Jvm.MethodName) prog_42_method_63_code (5 : Nat) (Option.some Jvm.ClassFile.FieldType.boolean)) ∈ lw_all := lw_g (lw_at lw_m14 57 rfl) rfl
theorem q3296 : (Jvm.Cond.methodLink "FairHouseModel" (527 : Nat) ({ cls := "FairHouseModel", name := "isTrue", desc := "(II)Z" } : Jvm.MethodName)) ∈ lw_all := lw_g (lw_at lw_m14 58 rfl) rfl
theorem q3297 : (Jvm.Cond.privateMethod ({ cls := "FairHouseModel", name := "isTrue", desc := "(II)Z" } : Jvm.MethodName)) ∈ lw_tbl := lw_at lw_m14 59 rfl
theorem q3298 : (Jvm.Cond.instanceMethod ({ cls := "FairHouseModel", name := "isTrue", desc := "(II)Z" } : Jvm.MethodName)) ∈ lw_all := lw_g (lw_at lw_m14 60 rfl) rfl
theorem q3299 : (Jvm.Cond.code ({ cls := "FairHouseModel", name := "isTrue", desc := "(II)Z" } : Jvm.MethodName) prog_42_method_43_code (5 : Nat) (Option.some Jvm.ClassFile.FieldType.boolean)) ∈ lw_all := lw_g (lw_at lw_m14 61 rfl) rfl
theorem q3300 : (Jvm.Cond.methodLink "FairHouseModel" (488 : Nat) ({ cls := "FairHouseModel", name := "asked", desc := "(II)Z" } : Jvm.MethodName)) ∈ lw_all := lw_g (lw_at lw_m14 62 rfl) rfl
theorem q3301 : (Jvm.Cond.privateMethod ({ cls := "FairHouseModel", name := "asked", desc := "(II)Z" } : Jvm.MethodName)) ∈ lw_tbl := lw_at lw_m14 63 rfl
theorem q3302 : (Jvm.Cond.instanceMethod ({ cls := "FairHouseModel", name := "asked", desc := "(II)Z" } : Jvm.MethodName)) ∈ lw_all := lw_g (lw_at lw_m14 64 rfl) rfl
theorem q3303 : (Jvm.Cond.code ({ cls := "FairHouseModel", name := "asked", desc := "(II)Z" } : Jvm.MethodName) prog_42_method_42_code (6 : Nat) (Option.some Jvm.ClassFile.FieldType.boolean)) ∈ lw_all := lw_g (lw_at lw_m14 65 rfl) rfl
theorem q3304 : (Jvm.Cond.methodLink "FairHouseModel" (533 : Nat) ({ cls := "FairHouseModel", name := "unload", desc := "(II)V" } : Jvm.MethodName)) ∈ lw_all := lw_g (lw_at lw_m14 66 rfl) rfl
theorem q3305 : (Jvm.Cond.privateMethod ({ cls := "FairHouseModel", name := "unload", desc := "(II)V" } : Jvm.MethodName)) ∈ lw_tbl := lw_at lw_m14 67 rfl
theorem q3306 : (Jvm.Cond.instanceMethod ({ cls := "FairHouseModel", name := "unload", desc := "(II)V" } : Jvm.MethodName)) ∈ lw_all := lw_g (lw_at lw_m14 68 rfl) rfl
theorem q3307 : (Jvm.Cond.code ({ cls := "FairHouseModel", name := "unload", desc := "(II)V" } : Jvm.MethodName) prog_42_method_58_code (4 : Nat) (Option.none : Option Jvm.ClassFile.FieldType)) ∈ lw_all := lw_g (lw_at lw_m14 69 rfl) rfl
theorem q3308 : (Jvm.Cond.methodLink "FairHouseModel" (535 : Nat) ({ cls := "FairHouseModel", name := "worked", desc := "(II)V" } : Jvm.MethodName)) ∈ lw_all := lw_g (lw_at lw_m14 70 rfl) rfl
theorem q3309 : (Jvm.Cond.privateMethod ({ cls := "FairHouseModel", name := "worked", desc := "(II)V" } : Jvm.MethodName)) ∈ lw_tbl := lw_at lw_m14 71 rfl
theorem q3310 : (Jvm.Cond.instanceMethod ({ cls := "FairHouseModel", name := "worked", desc := "(II)V" } : Jvm.MethodName)) ∈ lw_all := lw_g (lw_at lw_m14 72 rfl) rfl
theorem q3311 : (Jvm.Cond.code ({ cls := "FairHouseModel", name := "worked", desc := "(II)V" } : Jvm.MethodName) prog_42_method_59_code (7 : Nat) (Option.none : Option Jvm.ClassFile.FieldType)) ∈ lw_all := lw_g (lw_at lw_m14 73 rfl) rfl
theorem q3312 : (Jvm.Cond.methodLink "FairHouseModel" (557 : Nat) ({ cls := "FairHouseModel", name := "eases", desc := "(I)V" } : Jvm.MethodName)) ∈ lw_all := lw_g (lw_at lw_m14 74 rfl) rfl
theorem q3313 : (Jvm.Cond.privateMethod ({ cls := "FairHouseModel", name := "eases", desc := "(I)V" } : Jvm.MethodName)) ∈ lw_tbl := lw_at lw_m14 75 rfl
theorem q3314 : (Jvm.Cond.instanceMethod ({ cls := "FairHouseModel", name := "eases", desc := "(I)V" } : Jvm.MethodName)) ∈ lw_all := lw_g (lw_at lw_m14 76 rfl) rfl
theorem q3315 : (Jvm.Cond.code ({ cls := "FairHouseModel", name := "eases", desc := "(I)V" } : Jvm.MethodName) prog_42_method_65_code (5 : Nat) (Option.none : Option Jvm.ClassFile.FieldType)) ∈ lw_all := lw_g (lw_at lw_m14 77 rfl) rfl
theorem q3316 : (Jvm.Cond.methodLink "FairHouseModel" (547 : Nat) ({ cls := "FairHouseModel", name := "towards", desc := "(IIII)I" } : Jvm.MethodName)) ∈ lw_all := lw_g (lw_at lw_m14 78 rfl) rfl
theorem q3317 : (Jvm.Cond.static ({ cls := "FairHouseModel", name := "towards", desc := "(IIII)I" } : Jvm.MethodName)) ∈ lw_all := lw_g (lw_at lw_m14 79 rfl) rfl
theorem q3318 : (Jvm.Cond.code ({ cls := "FairHouseModel", name := "towards", desc := "(IIII)I" } : Jvm.MethodName) prog_42_method_64_code (4 : Nat) (Option.some Jvm.ClassFile.FieldType.int)) ∈ lw_all := lw_g (lw_at lw_m14 80 rfl) rfl
theorem q3319 : (Jvm.Cond.methodLink "FairHouseModel" (494 : Nat) ({ cls := "FairHouseModel", name := "sizeOf", desc := "(I)I" } : Jvm.MethodName)) ∈ lw_all := lw_g (lw_at lw_m14 81 rfl) rfl
theorem q3320 : (Jvm.Cond.static ({ cls := "FairHouseModel", name := "sizeOf", desc := "(I)I" } : Jvm.MethodName)) ∈ lw_all := lw_g (lw_at lw_m14 82 rfl) rfl
theorem q3321 : (Jvm.Cond.code ({ cls := "FairHouseModel", name := "sizeOf", desc := "(I)I" } : Jvm.MethodName) prog_42_method_45_code (1 : Nat) (Option.some Jvm.ClassFile.FieldType.int)) ∈ lw_all := lw_g (lw_at lw_m14 83 rfl) rfl
theorem q3322 : (Jvm.Cond.methodLink "FairHouseModel" (560 : Nat) ({ cls := "FairHouseModel", name := "shed", desc := "()V" } : Jvm.MethodName)) ∈ lw_all := lw_g (lw_at lw_m14 84 rfl) rfl
theorem q3323 : (Jvm.Cond.privateMethod ({ cls := "FairHouseModel", name := "shed", desc := "()V" } : Jvm.MethodName)) ∈ lw_tbl := lw_at lw_m14 85 rfl
theorem q3324 : (Jvm.Cond.instanceMethod ({ cls := "FairHouseModel", name := "shed", desc := "()V" } : Jvm.MethodName)) ∈ lw_all := lw_g (lw_at lw_m14 86 rfl) rfl
theorem q3325 : (Jvm.Cond.code ({ cls := "FairHouseModel", name := "shed", desc := "()V" } : Jvm.MethodName) prog_42_method_66_code (3 : Nat) (Option.none : Option Jvm.ClassFile.FieldType)) ∈ lw_all := lw_g (lw_at lw_m14 87 rfl) rfl
theorem q3326 : (Jvm.Cond.methodLink "FairHouseModel" (551 : Nat) ({ cls := "FairHouseModel", name := "draw", desc := "(I)I" } : Jvm.MethodName)) ∈ lw_all := lw_g (lw_at lw_m14 88 rfl) rfl
theorem q3327 : (Jvm.Cond.privateMethod ({ cls := "FairHouseModel", name := "draw", desc := "(I)I" } : Jvm.MethodName)) ∈ lw_tbl := lw_at lw_m14 89 rfl
theorem q3328 : (Jvm.Cond.instanceMethod ({ cls := "FairHouseModel", name := "draw", desc := "(I)I" } : Jvm.MethodName)) ∈ lw_all := lw_g (lw_at lw_m14 90 rfl) rfl
theorem q3329 : (Jvm.Cond.code ({ cls := "FairHouseModel", name := "draw", desc := "(I)I" } : Jvm.MethodName) prog_42_method_46_code (6 : Nat) (Option.some Jvm.ClassFile.FieldType.int)) ∈ lw_all := lw_g (lw_at lw_m14 91 rfl) rfl
theorem q3330 : (Jvm.Cond.methodLink "FairHouseModel" (563 : Nat) ({ cls := "FairHouseModel", name := "limit", desc := "(I)I" } : Jvm.MethodName)) ∈ lw_all := lw_g (lw_at lw_m14 92 rfl) rfl
theorem q3331 : (Jvm.Cond.privateMethod ({ cls := "FairHouseModel", name := "limit", desc := "(I)I" } : Jvm.MethodName)) ∈ lw_tbl := lw_at lw_m14 93 rfl
theorem q3332 : (Jvm.Cond.instanceMethod ({ cls := "FairHouseModel", name := "limit", desc := "(I)I" } : Jvm.MethodName)) ∈ lw_all := lw_g (lw_at lw_m14 94 rfl) rfl
theorem q3333 : (Jvm.Cond.code ({ cls := "FairHouseModel", name := "limit", desc := "(I)I" } : Jvm.MethodName) prog_42_method_50_code (2 : Nat) (Option.some Jvm.ClassFile.FieldType.int)) ∈ lw_all := lw_g (lw_at lw_m14 95 rfl) rfl
theorem q3334 : (Jvm.Cond.methodLink "FairHouseModel" (566 : Nat) ({ cls := "FairHouseModel", name := "tear", desc := "(I)I" } : Jvm.MethodName)) ∈ lw_all := lw_g (lw_at lw_m14 96 rfl) rfl
theorem q3335 : (Jvm.Cond.privateMethod ({ cls := "FairHouseModel", name := "tear", desc := "(I)I" } : Jvm.MethodName)) ∈ lw_tbl := lw_at lw_m14 97 rfl
theorem q3336 : (Jvm.Cond.instanceMethod ({ cls := "FairHouseModel", name := "tear", desc := "(I)I" } : Jvm.MethodName)) ∈ lw_all := lw_g (lw_at lw_m14 98 rfl) rfl
theorem q3337 : (Jvm.Cond.code ({ cls := "FairHouseModel", name := "tear", desc := "(I)I" } : Jvm.MethodName) prog_42_method_48_code (4 : Nat) (Option.some Jvm.ClassFile.FieldType.int)) ∈ lw_all := lw_g (lw_at lw_m14 99 rfl) rfl
theorem q3339 : (Jvm.Cond.instanceMethod ({ cls := "FairHouseModel", name := "measure", desc := "(II)I" } : Jvm.MethodName)) ∈ lw_all := lw_g (lw_at lw_m14 101 rfl) rfl
theorem q3340 : (Jvm.Cond.selects "FairHouseModel" ({ cls := "FairHouseModel", name := "measure", desc := "(II)I" } : Jvm.MethodName) ({ cls := "FairHouseModel", name := "measure", desc := "(II)I" } : Jvm.MethodName)) ∈ lw_all := lw_g (lw_at lw_m14 102 rfl) rfl
theorem q3341 : (Jvm.Cond.code ({ cls := "FairHouseModel", name := "measure", desc := "(II)I" } : Jvm.MethodName) prog_42_method_78_code (3 : Nat) (Option.some Jvm.ClassFile.FieldType.int)) ∈ lw_all := lw_g (lw_at lw_m14 103 rfl) rfl
theorem q3343 : (Jvm.Cond.instanceMethod ({ cls := "FairHouseModel", name := "says", desc := "(II)I" } : Jvm.MethodName)) ∈ lw_all := lw_g (lw_at lw_m14 105 rfl) rfl
theorem q3344 : (Jvm.Cond.selects "FairHouseModel" ({ cls := "FairHouseModel", name := "says", desc := "(II)I" } : Jvm.MethodName) ({ cls := "FairHouseModel", name := "says", desc := "(II)I" } : Jvm.MethodName)) ∈ lw_all := lw_g (lw_at lw_m14 106 rfl) rfl
theorem q3345 : (Jvm.Cond.code ({ cls := "FairHouseModel", name := "says", desc := "(II)I" } : Jvm.MethodName) prog_42_method_79_code (3 : Nat) (Option.some Jvm.ClassFile.FieldType.int)) ∈ lw_all := lw_g (lw_at lw_m14 107 rfl) rfl
theorem q3346 : (Jvm.Cond.methodLink "FairHouseModel" (591 : Nat) ({ cls := "FairHouseModel", name := "noise", desc := "(I)I" } : Jvm.MethodName)) ∈ lw_all := lw_g (lw_at lw_m14 108 rfl) rfl
theorem q3347 : (Jvm.Cond.privateMethod ({ cls := "FairHouseModel", name := "noise", desc := "(I)I" } : Jvm.MethodName)) ∈ lw_tbl := lw_at lw_m14 109 rfl
theorem q3348 : (Jvm.Cond.instanceMethod ({ cls := "FairHouseModel", name := "noise", desc := "(I)I" } : Jvm.MethodName)) ∈ lw_all := lw_g (lw_at lw_m14 110 rfl) rfl
theorem q3349 : (Jvm.Cond.code ({ cls := "FairHouseModel", name := "noise", desc := "(I)I" } : Jvm.MethodName) prog_42_method_47_code (6 : Nat) (Option.some Jvm.ClassFile.FieldType.int)) ∈ lw_all := lw_g (lw_at lw_m14 111 rfl) rfl
theorem q3351 : (Jvm.Cond.instanceMethod ({ cls := "FairHouseModel", name := "script", desc := "(II)I" } : Jvm.MethodName)) ∈ lw_all := lw_g (lw_at lw_m14 113 rfl) rfl
theorem q3352 : (Jvm.Cond.selects "FairHouseModel" ({ cls := "FairHouseModel", name := "script", desc := "(II)I" } : Jvm.MethodName) ({ cls := "FairHouseModel", name := "script", desc := "(II)I" } : Jvm.MethodName)) ∈ lw_all := lw_g (lw_at lw_m14 114 rfl) rfl
theorem q3353 : (Jvm.Cond.code ({ cls := "FairHouseModel", name := "script", desc := "(II)I" } : Jvm.MethodName) prog_42_method_80_code (3 : Nat) (Option.some Jvm.ClassFile.FieldType.int)) ∈ lw_all := lw_g (lw_at lw_m14 115 rfl) rfl
theorem q3355 : (Jvm.Cond.instanceMethod ({ cls := "FairHouseModel", name := "free", desc := "(I)I" } : Jvm.MethodName)) ∈ lw_all := lw_g (lw_at lw_m14 117 rfl) rfl
theorem q3356 : (Jvm.Cond.selects "FairHouseModel" ({ cls := "FairHouseModel", name := "free", desc := "(I)I" } : Jvm.MethodName) ({ cls := "FairHouseModel", name := "free", desc := "(I)I" } : Jvm.MethodName)) ∈ lw_all := lw_g (lw_at lw_m14 118 rfl) rfl
theorem q3357 : (Jvm.Cond.code ({ cls := "FairHouseModel", name := "free", desc := "(I)I" } : Jvm.MethodName) prog_42_method_81_code (2 : Nat) (Option.some Jvm.ClassFile.FieldType.int)) ∈ lw_all := lw_g (lw_at lw_m14 119 rfl) rfl
theorem q3359 : (Jvm.Cond.instanceMethod ({ cls := "FairHouseModel", name := "isUp", desc := "(I)Z" } : Jvm.MethodName)) ∈ lw_all := lw_g (lw_at lw_m14 121 rfl) rfl
theorem q3360 : (Jvm.Cond.selects "FairHouseModel" ({ cls := "FairHouseModel", name := "isUp", desc := "(I)Z" } : Jvm.MethodName) ({ cls := "FairHouseModel", name := "isUp", desc := "(I)Z" } : Jvm.MethodName)) ∈ lw_all := lw_g (lw_at lw_m14 122 rfl) rfl
theorem q3361 : (Jvm.Cond.code ({ cls := "FairHouseModel", name := "isUp", desc := "(I)Z" } : Jvm.MethodName) prog_42_method_82_code (2 : Nat) (Option.some Jvm.ClassFile.FieldType.boolean)) ∈ lw_all := lw_g (lw_at lw_m14 123 rfl) rfl
theorem q3363 : (Jvm.Cond.instanceMethod ({ cls := "FairHouseModel", name := "set", desc := "(IZ)Z" } : Jvm.MethodName)) ∈ lw_all := lw_g (lw_at lw_m14 125 rfl) rfl
theorem q3364 : (Jvm.Cond.selects "FairHouseModel" ({ cls := "FairHouseModel", name := "set", desc := "(IZ)Z" } : Jvm.MethodName) ({ cls := "FairHouseModel", name := "set", desc := "(IZ)Z" } : Jvm.MethodName)) ∈ lw_all := lw_g (lw_at lw_m14 126 rfl) rfl
theorem q3365 : (Jvm.Cond.code ({ cls := "FairHouseModel", name := "set", desc := "(IZ)Z" } : Jvm.MethodName) prog_42_method_83_code (4 : Nat) (Option.some Jvm.ClassFile.FieldType.boolean)) ∈ lw_all := lw_g (lw_at lw_m14 127 rfl) rfl
theorem q3367 : (Jvm.Cond.instanceMethod ({ cls := "FairHouseModel", name := "total", desc := "(I)I" } : Jvm.MethodName)) ∈ lw_all := lw_g (lw_at lw_m14 129 rfl) rfl
theorem q3368 : (Jvm.Cond.selects "FairHouseModel" ({ cls := "FairHouseModel", name := "total", desc := "(I)I" } : Jvm.MethodName) ({ cls := "FairHouseModel", name := "total", desc := "(I)I" } : Jvm.MethodName)) ∈ lw_all := lw_g (lw_at lw_m14 130 rfl) rfl
theorem q3369 : (Jvm.Cond.code ({ cls := "FairHouseModel", name := "total", desc := "(I)I" } : Jvm.MethodName) prog_42_method_84_code (4 : Nat) (Option.some Jvm.ClassFile.FieldType.int)) ∈ lw_all := lw_g (lw_at lw_m14 131 rfl) rfl
theorem q3371 : (Jvm.Cond.instanceMethod ({ cls := "FairHouseModel", name := "log", desc := "(II)I" } : Jvm.MethodName)) ∈ lw_all := lw_g (lw_at lw_m14 133 rfl) rfl
theorem q3372 : (Jvm.Cond.selects "FairHouseModel" ({ cls := "FairHouseModel", name := "log", desc := "(II)I" } : Jvm.MethodName) ({ cls := "FairHouseModel", name := "log", desc := "(II)I" } : Jvm.MethodName)) ∈ lw_all := lw_g (lw_at lw_m14 134 rfl) rfl
theorem q3373 : (Jvm.Cond.code ({ cls := "FairHouseModel", name := "log", desc := "(II)I" } : Jvm.MethodName) prog_42_method_85_code (4 : Nat) (Option.some Jvm.ClassFile.FieldType.int)) ∈ lw_all := lw_g (lw_at lw_m14 135 rfl) rfl
theorem q3413 : (Jvm.Cond.castable "FairHouseModel" "java/lang/Object") ∈ lw_tbl := lw_at lw_m14 175 rfl
theorem q125 : (Jvm.Cond.initialized "FairHouse$Reader") ∈ lw_all := lw_g (lw_at lw_m1 7 rfl) rfl
theorem q332 : (Jvm.Cond.instantiable "FairHouse$Reader" (21 : Nat)) ∈ lw_all := lw_g (lw_at lw_m1 214 rfl) rfl
theorem q334 : (Jvm.Cond.instanceMethod ({ cls := "FairHouse$Reader", name := "<init>", desc := "([BI)V" } : Jvm.MethodName)) ∈ lw_all := lw_g (lw_at lw_m1 216 rfl) rfl
theorem q335 : (Jvm.Cond.code ({ cls := "FairHouse$Reader", name := "<init>", desc := "([BI)V" } : Jvm.MethodName) prog_22_method_1_code (3 : Nat) (Option.none : Option Jvm.ClassFile.FieldType)) ∈ lw_all := lw_g (lw_at lw_m1 217 rfl) rfl
theorem q336 : (Jvm.Cond.methodLink "FairHouse$Reader" (3 : Nat) ({ cls := "java/lang/Object", name := "<init>", desc := "()V" } : Jvm.MethodName)) ∈ lw_all := lw_g (lw_at lw_m1 218 rfl) rfl
theorem q337 : (Jvm.Cond.classLink "FairHouse$Reader" (9 : Nat) "java/util/ArrayList") ∈ lw_all := lw_g (lw_at lw_m1 219 rfl) rfl
theorem q339 : (Jvm.Cond.methodLink "FairHouse$Reader" (11 : Nat) ({ cls := "java/util/ArrayList", name := "<init>", desc := "()V" } : Jvm.MethodName)) ∈ lw_all := lw_g (lw_at lw_m1 221 rfl) rfl
theorem q363 : (Jvm.Cond.methodLink "FairHouse$Reader" (21 : Nat) ({ cls := "java/util/ArrayList", name := "<init>", desc := "(I)V" } : Jvm.MethodName)) ∈ lw_all := lw_g (lw_at lw_m2 5 rfl) rfl
theorem q628 : (Jvm.Cond.fieldLink "FairHouse$Reader" (35 : Nat) "FairHouse$Reader" "text" "[B") ∈ lw_all := lw_g (lw_at lw_m3 30 rfl) rfl
theorem q629 : (Jvm.Cond.fieldLink "FairHouse$Reader" (39 : Nat) "FairHouse$Reader" "size" "I") ∈ lw_all := lw_g (lw_at lw_m3 31 rfl) rfl
theorem q630 : (Jvm.Cond.fieldLink "FairHouse$Reader" (42 : Nat) "FairHouse$Reader" "next" "I") ∈ lw_all := lw_g (lw_at lw_m3 32 rfl) rfl
theorem q631 : (Jvm.Cond.fieldLink "FairHouse$Reader" (45 : Nat) "FairHouse$Reader" "place" "I") ∈ lw_all := lw_g (lw_at lw_m3 33 rfl) rfl
theorem q632 : (Jvm.Cond.fieldLink "FairHouse$Reader" (87 : Nat) "FairHouse$Reader" "number" "I") ∈ lw_all := lw_g (lw_at lw_m3 34 rfl) rfl
theorem q633 : (Jvm.Cond.fieldLink "FairHouse$Reader" (96 : Nat) "FairHouse$Reader" "sign" "I") ∈ lw_all := lw_g (lw_at lw_m3 35 rfl) rfl
theorem q634 : (Jvm.Cond.fieldLink "FairHouse$Reader" (77 : Nat) "FairHouse$Reader" "word" "J") ∈ lw_all := lw_g (lw_at lw_m3 36 rfl) rfl
theorem q635 : (Jvm.Cond.fieldLink "FairHouse$Reader" (58 : Nat) "FairHouse$Reader" "sort" "LFairHouse$Sort;") ∈ lw_all := lw_g (lw_at lw_m3 37 rfl) rfl
theorem q636 : (Jvm.Cond.fieldLink "FairHouse$Reader" (12 : Nat) "FairHouse$Reader" "names" "Ljava/util/ArrayList;") ∈ lw_all := lw_g (lw_at lw_m3 38 rfl) rfl
theorem q637 : (Jvm.Cond.fieldLink "FairHouse$Reader" (18 : Nat) "FairHouse$Reader" "readings" "Ljava/util/ArrayList;") ∈ lw_all := lw_g (lw_at lw_m3 39 rfl) rfl
theorem q638 : (Jvm.Cond.fieldLink "FairHouse$Reader" (24 : Nat) "FairHouse$Reader" "rides" "Ljava/util/ArrayList;") ∈ lw_all := lw_g (lw_at lw_m3 40 rfl) rfl
theorem q640 : (Jvm.Cond.fieldLink "FairHouse$Reader" (27 : Nat) "FairHouse$Reader" "staff" "[I") ∈ lw_all := lw_g (lw_at lw_m3 42 rfl) rfl
theorem q643 : (Jvm.Cond.fieldLink "FairHouse$Reader" (175 : Nat) "FairHouse$Reader" "staffs" "I") ∈ lw_all := lw_g (lw_at lw_m3 45 rfl) rfl
theorem q645 : (Jvm.Cond.fieldLink "FairHouse$Reader" (183 : Nat) "FairHouse$Reader" "flags" "I") ∈ lw_all := lw_g (lw_at lw_m3 47 rfl) rfl
theorem q646 : (Jvm.Cond.fieldLink "FairHouse$Reader" (31 : Nat) "FairHouse$Reader" "power" "I") ∈ lw_all := lw_g (lw_at lw_m3 48 rfl) rfl
theorem q648 : (Jvm.Cond.fieldLink "FairHouse$Reader" (163 : Nat) "FairHouse$Reader" "hasPower" "Z") ∈ lw_all := lw_g (lw_at lw_m3 50 rfl) rfl
theorem q649 : (Jvm.Cond.fieldLink "FairHouse$Reader" (216 : Nat) "FairHouse$Reader" "ride" "LFairHouse$Ride;") ∈ lw_all := lw_g (lw_at lw_m3 51 rfl) rfl
theorem q650 : (Jvm.Cond.fieldLink "FairHouse$Reader" (217 : Nat) "FairHouse$Reader" "steps" "I") ∈ lw_all := lw_g (lw_at lw_m3 52 rfl) rfl
theorem q651 : (Jvm.Cond.fieldLink "FairHouse$Reader" (220 : Nat) "FairHouse$Reader" "blocks" "I") ∈ lw_all := lw_g (lw_at lw_m3 53 rfl) rfl
theorem q652 : (Jvm.Cond.fieldLink "FairHouse$Reader" (223 : Nat) "FairHouse$Reader" "loops" "I") ∈ lw_all := lw_g (lw_at lw_m3 54 rfl) rfl
theorem q653 : (Jvm.Cond.fieldLink "FairHouse$Reader" (358 : Nat) "FairHouse$Reader" "inside" "I") ∈ lw_all := lw_g (lw_at lw_m3 55 rfl) rfl
theorem q654 : (Jvm.Cond.laysFinal "FairHouse$Reader" "FairHouse$Reader" "text" "[B") ∈ lw_all := lw_g (lw_at lw_m3 56 rfl) rfl
theorem q655 : (Jvm.Cond.soleField "FairHouse$Reader" "text") ∈ lw_all := lw_g (lw_at lw_m3 57 rfl) rfl
theorem q656 : (Jvm.Cond.laysFinal "FairHouse$Reader" "FairHouse$Reader" "size" "I") ∈ lw_all := lw_g (lw_at lw_m3 58 rfl) rfl
theorem q657 : (Jvm.Cond.soleField "FairHouse$Reader" "size") ∈ lw_all := lw_g (lw_at lw_m3 59 rfl) rfl
theorem q658 : (Jvm.Cond.lays "FairHouse$Reader" "FairHouse$Reader" "next" "I") ∈ lw_all := lw_g (lw_at lw_m3 60 rfl) rfl
theorem q659 : (Jvm.Cond.soleField "FairHouse$Reader" "next") ∈ lw_all := lw_g (lw_at lw_m3 61 rfl) rfl
theorem q660 : (Jvm.Cond.lays "FairHouse$Reader" "FairHouse$Reader" "place" "I") ∈ lw_all := lw_g (lw_at lw_m3 62 rfl) rfl
theorem q661 : (Jvm.Cond.soleField "FairHouse$Reader" "place") ∈ lw_all := lw_g (lw_at lw_m3 63 rfl) rfl
theorem q662 : (Jvm.Cond.lays "FairHouse$Reader" "FairHouse$Reader" "number" "I") ∈ lw_all := lw_g (lw_at lw_m3 64 rfl) rfl
theorem q663 : (Jvm.Cond.soleField "FairHouse$Reader" "number") ∈ lw_all := lw_g (lw_at lw_m3 65 rfl) rfl
theorem q664 : (Jvm.Cond.lays "FairHouse$Reader" "FairHouse$Reader" "sign" "I") ∈ lw_all := lw_g (lw_at lw_m3 66 rfl) rfl
theorem q665 : (Jvm.Cond.soleField "FairHouse$Reader" "sign") ∈ lw_all := lw_g (lw_at lw_m3 67 rfl) rfl
theorem q666 : (Jvm.Cond.lays "FairHouse$Reader" "FairHouse$Reader" "word" "J") ∈ lw_all := lw_g (lw_at lw_m3 68 rfl) rfl
theorem q667 : (Jvm.Cond.soleField "FairHouse$Reader" "word") ∈ lw_all := lw_g (lw_at lw_m3 69 rfl) rfl
theorem q668 : (Jvm.Cond.lays "FairHouse$Reader" "FairHouse$Reader" "sort" "LFairHouse$Sort;") ∈ lw_all := lw_g (lw_at lw_m3 70 rfl) rfl
theorem q669 : (Jvm.Cond.soleField "FairHouse$Reader" "sort") ∈ lw_all := lw_g (lw_at lw_m3 71 rfl) rfl
theorem q670 : (Jvm.Cond.laysFinal "FairHouse$Reader" "FairHouse$Reader" "names" "Ljava/util/ArrayList;") ∈ lw_all := lw_g (lw_at lw_m3 72 rfl) rfl
theorem q671 : (Jvm.Cond.soleField "FairHouse$Reader" "names") ∈ lw_all := lw_g (lw_at lw_m3 73 rfl) rfl
theorem q672 : (Jvm.Cond.laysFinal "FairHouse$Reader" "FairHouse$Reader" "readings" "Ljava/util/ArrayList;") ∈ lw_all := lw_g (lw_at lw_m3 74 rfl) rfl
theorem q673 : (Jvm.Cond.soleField "FairHouse$Reader" "readings") ∈ lw_all := lw_g (lw_at lw_m3 75 rfl) rfl
theorem q674 : (Jvm.Cond.laysFinal "FairHouse$Reader" "FairHouse$Reader" "rides" "Ljava/util/ArrayList;") ∈ lw_all := lw_g (lw_at lw_m3 76 rfl) rfl
theorem q675 : (Jvm.Cond.soleField "FairHouse$Reader" "rides") ∈ lw_all := lw_g (lw_at lw_m3 77 rfl) rfl
theorem q676 : (Jvm.Cond.laysFinal "FairHouse$Reader" "FairHouse$Reader" "staff" "[I") ∈ lw_all := lw_g (lw_at lw_m3 78 rfl) rfl
theorem q677 : (Jvm.Cond.soleField "FairHouse$Reader" "staff") ∈ lw_all := lw_g (lw_at lw_m3 79 rfl) rfl
theorem q678 : (Jvm.Cond.lays "FairHouse$Reader" "FairHouse$Reader" "staffs" "I") ∈ lw_all := lw_g (lw_at lw_m3 80 rfl) rfl
theorem q679 : (Jvm.Cond.soleField "FairHouse$Reader" "staffs") ∈ lw_all := lw_g (lw_at lw_m3 81 rfl) rfl
theorem q680 : (Jvm.Cond.lays "FairHouse$Reader" "FairHouse$Reader" "flags" "I") ∈ lw_all := lw_g (lw_at lw_m3 82 rfl) rfl
theorem q681 : (Jvm.Cond.soleField "FairHouse$Reader" "flags") ∈ lw_all := lw_g (lw_at lw_m3 83 rfl) rfl
theorem q682 : (Jvm.Cond.lays "FairHouse$Reader" "FairHouse$Reader" "power" "I") ∈ lw_all := lw_g (lw_at lw_m3 84 rfl) rfl
theorem q683 : (Jvm.Cond.soleField "FairHouse$Reader" "power") ∈ lw_all := lw_g (lw_at lw_m3 85 rfl) rfl
theorem q684 : (Jvm.Cond.lays "FairHouse$Reader" "FairHouse$Reader" "hasPower" "Z") ∈ lw_all := lw_g (lw_at lw_m3 86 rfl) rfl
theorem q685 : (Jvm.Cond.soleField "FairHouse$Reader" "hasPower") ∈ lw_all := lw_g (lw_at lw_m3 87 rfl) rfl
theorem q686 : (Jvm.Cond.lays "FairHouse$Reader" "FairHouse$Reader" "ride" "LFairHouse$Ride;") ∈ lw_all := lw_g (lw_at lw_m3 88 rfl) rfl
theorem q687 : (Jvm.Cond.soleField "FairHouse$Reader" "ride") ∈ lw_all := lw_g (lw_at lw_m3 89 rfl) rfl
theorem q688 : (Jvm.Cond.lays "FairHouse$Reader" "FairHouse$Reader" "steps" "I") ∈ lw_all := lw_g (lw_at lw_m3 90 rfl) rfl
theorem q689 : (Jvm.Cond.soleField "FairHouse$Reader" "steps") ∈ lw_all := lw_g (lw_at lw_m3 91 rfl) rfl
theorem q690 : (Jvm.Cond.lays "FairHouse$Reader" "FairHouse$Reader" "blocks" "I") ∈ lw_all := lw_g (lw_at lw_m3 92 rfl) rfl
theorem q691 : (Jvm.Cond.soleField "FairHouse$Reader" "blocks") ∈ lw_all := lw_g (lw_at lw_m3 93 rfl) rfl
theorem q692 : (Jvm.Cond.lays "FairHouse$Reader" "FairHouse$Reader" "loops" "I") ∈ lw_all := lw_g (lw_at lw_m3 94 rfl) rfl
theorem q693 : (Jvm.Cond.soleField "FairHouse$Reader" "loops") ∈ lw_all := lw_g (lw_at lw_m3 95 rfl) rfl
theorem q694 : (Jvm.Cond.lays "FairHouse$Reader" "FairHouse$Reader" "inside" "I") ∈ lw_all := lw_g (lw_at lw_m3 96 rfl) rfl
theorem q695 : (Jvm.Cond.soleField "FairHouse$Reader" "inside") ∈ lw_all := lw_g (lw_at lw_m3 97 rfl) rfl
theorem q696 : (Jvm.Cond.superclass "FairHouse$Reader" "java/lang/Object") ∈ lw_all := lw_g (lw_at lw_m3 98 rfl) rfl
theorem q698 : (Jvm.Cond.instanceMethod ({ cls := "FairHouse$Reader", name := "fair", desc := "()V" } : Jvm.MethodName)) ∈ lw_all := lw_g (lw_at lw_m3 100 rfl) rfl
theorem q699 : (Jvm.Cond.selects "FairHouse$Reader" ({ cls := "FairHouse$Reader", name := "fair", desc := "()V" } : Jvm.MethodName) ({ cls := "FairHouse$Reader", name := "fair", desc := "()V" } : Jvm.MethodName)) ∈ lw_all := lw_g (lw_at lw_m3 101 rfl) rfl
theorem q700 : (Jvm.Cond.code ({ cls := "FairHouse$Reader", name := "fair", desc := "()V" } : Jvm.MethodName) prog_22_method_19_code (4 : Nat) (Option.none : Option Jvm.ClassFile.FieldType)) ∈ lw_all := lw_g (lw_at lw_m3 102 rfl) rfl
theorem q701 : (Jvm.Cond.methodLink "FairHouse$Reader" (118 : Nat) ({ cls := "FairHouse$Reader", name := "go", desc := "()V" } : Jvm.MethodName)) ∈ lw_all := lw_g (lw_at lw_m3 103 rfl) rfl
theorem q702 : (Jvm.Cond.privateMethod ({ cls := "FairHouse$Reader", name := "go", desc := "()V" } : Jvm.MethodName)) ∈ lw_tbl := lw_at lw_m3 104 rfl
theorem q703 : (Jvm.Cond.instanceMethod ({ cls := "FairHouse$Reader", name := "go", desc := "()V" } : Jvm.MethodName)) ∈ lw_all := lw_g (lw_at lw_m3 105 rfl) rfl
theorem q704 : (Jvm.Cond.code ({ cls := "FairHouse$Reader", name := "go", desc := "()V" } : Jvm.MethodName) prog_22_method_5_code (2 : Nat) (Option.none : Option Jvm.ClassFile.FieldType)) ∈ lw_all := lw_g (lw_at lw_m3 106 rfl) rfl
theorem q705 : (Jvm.Cond.methodLink "FairHouse$Reader" (48 : Nat) ({ cls := "FairHouse$Reader", name := "at", desc := "(I)I" } : Jvm.MethodName)) ∈ lw_all := lw_g (lw_at lw_m3 107 rfl) rfl
theorem q706 : (Jvm.Cond.privateMethod ({ cls := "FairHouse$Reader", name := "at", desc := "(I)I" } : Jvm.MethodName)) ∈ lw_tbl := lw_at lw_m3 108 rfl
theorem q707 : (Jvm.Cond.instanceMethod ({ cls := "FairHouse$Reader", name := "at", desc := "(I)I" } : Jvm.MethodName)) ∈ lw_all := lw_g (lw_at lw_m3 109 rfl) rfl
theorem q708 : (Jvm.Cond.code ({ cls := "FairHouse$Reader", name := "at", desc := "(I)I" } : Jvm.MethodName) prog_22_method_2_code (2 : Nat) (Option.some Jvm.ClassFile.FieldType.int)) ∈ lw_all := lw_g (lw_at lw_m3 110 rfl) rfl
theorem q709 : (Jvm.Cond.fieldLink "FairHouse$Reader" (52 : Nat) "FairHouse$Sort" "END" "LFairHouse$Sort;") ∈ lw_all := lw_g (lw_at lw_m3 111 rfl) rfl
theorem q711 : (Jvm.Cond.methodLink "FairHouse$Reader" (61 : Nat) ({ cls := "FairHouse$Reader", name := "isLetter", desc := "(I)Z" } : Jvm.MethodName)) ∈ lw_all := lw_g (lw_at lw_m3 113 rfl) rfl
theorem q712 : (Jvm.Cond.static ({ cls := "FairHouse$Reader", name := "isLetter", desc := "(I)Z" } : Jvm.MethodName)) ∈ lw_all := lw_g (lw_at lw_m3 114 rfl) rfl
theorem q713 : (Jvm.Cond.code ({ cls := "FairHouse$Reader", name := "isLetter", desc := "(I)Z" } : Jvm.MethodName) prog_22_method_3_code (1 : Nat) (Option.some Jvm.ClassFile.FieldType.boolean)) ∈ lw_all := lw_g (lw_at lw_m3 115 rfl) rfl
theorem q714 : (Jvm.Cond.methodLink "FairHouse$Reader" (65 : Nat) ({ cls := "FairHouse$Reader", name := "letters", desc := "()V" } : Jvm.MethodName)) ∈ lw_all := lw_g (lw_at lw_m3 116 rfl) rfl
theorem q715 : (Jvm.Cond.privateMethod ({ cls := "FairHouse$Reader", name := "letters", desc := "()V" } : Jvm.MethodName)) ∈ lw_tbl := lw_at lw_m3 117 rfl
theorem q716 : (Jvm.Cond.instanceMethod ({ cls := "FairHouse$Reader", name := "letters", desc := "()V" } : Jvm.MethodName)) ∈ lw_all := lw_g (lw_at lw_m3 118 rfl) rfl
theorem q717 : (Jvm.Cond.code ({ cls := "FairHouse$Reader", name := "letters", desc := "()V" } : Jvm.MethodName) prog_22_method_6_code (1 : Nat) (Option.none : Option Jvm.ClassFile.FieldType)) ∈ lw_all := lw_g (lw_at lw_m3 119 rfl) rfl
theorem q718 : (Jvm.Cond.methodLink "FairHouse$Reader" (68 : Nat) ({ cls := "FairHouse$Reader", name := "isDigit", desc := "(I)Z" } : Jvm.MethodName)) ∈ lw_all := lw_g (lw_at lw_m3 120 rfl) rfl
theorem q719 : (Jvm.Cond.static ({ cls := "FairHouse$Reader", name := "isDigit", desc := "(I)Z" } : Jvm.MethodName)) ∈ lw_all := lw_g (lw_at lw_m3 121 rfl) rfl
theorem q720 : (Jvm.Cond.code ({ cls := "FairHouse$Reader", name := "isDigit", desc := "(I)Z" } : Jvm.MethodName) prog_22_method_4_code (1 : Nat) (Option.some Jvm.ClassFile.FieldType.boolean)) ∈ lw_all := lw_g (lw_at lw_m3 122 rfl) rfl
theorem q721 : (Jvm.Cond.fieldLink "FairHouse$Reader" (81 : Nat) "FairHouse$Sort" "BAD" "LFairHouse$Sort;") ∈ lw_all := lw_g (lw_at lw_m3 123 rfl) rfl
theorem q723 : (Jvm.Cond.fieldLink "FairHouse$Reader" (84 : Nat) "FairHouse$Sort" "WORD" "LFairHouse$Sort;") ∈ lw_all := lw_g (lw_at lw_m3 125 rfl) rfl
theorem q725 : (Jvm.Cond.methodLink "FairHouse$Reader" (71 : Nat) ({ cls := "FairHouse$Reader", name := "digits", desc := "()V" } : Jvm.MethodName)) ∈ lw_all := lw_g (lw_at lw_m3 127 rfl) rfl
theorem q726 : (Jvm.Cond.privateMethod ({ cls := "FairHouse$Reader", name := "digits", desc := "()V" } : Jvm.MethodName)) ∈ lw_tbl := lw_at lw_m3 128 rfl
theorem q727 : (Jvm.Cond.instanceMethod ({ cls := "FairHouse$Reader", name := "digits", desc := "()V" } : Jvm.MethodName)) ∈ lw_all := lw_g (lw_at lw_m3 129 rfl) rfl
theorem q728 : (Jvm.Cond.code ({ cls := "FairHouse$Reader", name := "digits", desc := "()V" } : Jvm.MethodName) prog_22_method_7_code (1 : Nat) (Option.none : Option Jvm.ClassFile.FieldType)) ∈ lw_all := lw_g (lw_at lw_m3 130 rfl) rfl
theorem q729 : (Jvm.Cond.fieldLink "FairHouse$Reader" (90 : Nat) "FairHouse$Sort" "NUMBER" "LFairHouse$Sort;") ∈ lw_all := lw_g (lw_at lw_m3 131 rfl) rfl
theorem q731 : (Jvm.Cond.methodLink "FairHouse$Reader" (74 : Nat) ({ cls := "FairHouse$Reader", name := "signs", desc := "(I)V" } : Jvm.MethodName)) ∈ lw_all := lw_g (lw_at lw_m3 133 rfl) rfl
theorem q732 : (Jvm.Cond.privateMethod ({ cls := "FairHouse$Reader", name := "signs", desc := "(I)V" } : Jvm.MethodName)) ∈ lw_tbl := lw_at lw_m3 134 rfl
theorem q733 : (Jvm.Cond.instanceMethod ({ cls := "FairHouse$Reader", name := "signs", desc := "(I)V" } : Jvm.MethodName)) ∈ lw_all := lw_g (lw_at lw_m3 135 rfl) rfl
theorem q734 : (Jvm.Cond.code ({ cls := "FairHouse$Reader", name := "signs", desc := "(I)V" } : Jvm.MethodName) prog_22_method_8_code (3 : Nat) (Option.none : Option Jvm.ClassFile.FieldType)) ∈ lw_all := lw_g (lw_at lw_m3 136 rfl) rfl
theorem q735 : (Jvm.Cond.fieldLink "FairHouse$Reader" (93 : Nat) "FairHouse$Sort" "SIGN" "LFairHouse$Sort;") ∈ lw_all := lw_g (lw_at lw_m3 137 rfl) rfl
theorem q737 : (Jvm.Cond.stringRef "FairHouse$Reader" (99 : Nat) "{}();.+-*/=<>") ∈ lw_tbl := lw_at lw_m3 139 rfl
theorem q738 : (Jvm.Cond.methodLink "FairHouse$Reader" (101 : Nat) ({ cls := "java/lang/String", name := "indexOf", desc := "(I)I" } : Jvm.MethodName)) ∈ lw_all := lw_g (lw_at lw_m3 140 rfl) rfl
theorem q788 : (Jvm.Cond.stringRef "FairHouse$Reader" (162 : Nat) "power") ∈ lw_tbl := lw_at lw_m3 190 rfl
theorem q789 : (Jvm.Cond.methodLink "FairHouse$Reader" (114 : Nat) ({ cls := "FairHouse$Reader", name := "isWord", desc := "(Ljava/lang/String;)Z" } : Jvm.MethodName)) ∈ lw_all := lw_g (lw_at lw_m3 191 rfl) rfl
theorem q790 : (Jvm.Cond.privateMethod ({ cls := "FairHouse$Reader", name := "isWord", desc := "(Ljava/lang/String;)Z" } : Jvm.MethodName)) ∈ lw_tbl := lw_at lw_m3 192 rfl
theorem q791 : (Jvm.Cond.instanceMethod ({ cls := "FairHouse$Reader", name := "isWord", desc := "(Ljava/lang/String;)Z" } : Jvm.MethodName)) ∈ lw_all := lw_g (lw_at lw_m3 193 rfl) rfl
theorem q792 : (Jvm.Cond.code ({ cls := "FairHouse$Reader", name := "isWord", desc := "(Ljava/lang/String;)Z" } : Jvm.MethodName) prog_22_method_11_code (2 : Nat) (Option.some Jvm.ClassFile.FieldType.boolean)) ∈ lw_all := lw_g (lw_at lw_m3 194 rfl) rfl
theorem q793 : (Jvm.Cond.methodLinkNest "FairHouse$Reader" (111 : Nat) ({ cls := "FairHouse", name := "word", desc := "(Ljava/lang/String;)J" } : Jvm.MethodName) "FairHouse") ∈ lw_tbl := lw_at lw_m3 195 rfl
theorem q817 : (Jvm.Cond.methodLink "FairHouse$Reader" (124 : Nat) ({ cls := "FairHouse$Reader", name := "wrong", desc := "(I)LFairHouse$Wrong;" } : Jvm.MethodName)) ∈ lw_all := lw_g (lw_at lw_m3 219 rfl) rfl
theorem q818 : (Jvm.Cond.privateMethod ({ cls := "FairHouse$Reader", name := "wrong", desc := "(I)LFairHouse$Wrong;" } : Jvm.MethodName)) ∈ lw_tbl := lw_at lw_m3 220 rfl
theorem q819 : (Jvm.Cond.instanceMethod ({ cls := "FairHouse$Reader", name := "wrong", desc := "(I)LFairHouse$Wrong;" } : Jvm.MethodName)) ∈ lw_all := lw_g (lw_at lw_m3 221 rfl) rfl
theorem q820 : (Jvm.Cond.code ({ cls := "FairHouse$Reader", name := "wrong", desc := "(I)LFairHouse$Wrong;" } : Jvm.MethodName) prog_22_method_9_code (2 : Nat) (Option.some (Jvm.ClassFile.FieldType.object "FairHouse$Wrong"))) ∈ lw_all := lw_g (lw_at lw_m3 222 rfl) rfl
theorem q821 : (Jvm.Cond.classLink "FairHouse$Reader" (106 : Nat) "FairHouse$Wrong") ∈ lw_all := lw_g (lw_at lw_m3 223 rfl) rfl
theorem q830 : (Jvm.Cond.methodLink "FairHouse$Reader" (108 : Nat) ({ cls := "FairHouse$Wrong", name := "<init>", desc := "(II)V" } : Jvm.MethodName)) ∈ lw_all := lw_g (lw_at lw_m3 232 rfl) rfl
theorem q844 : (Jvm.Cond.methodLink "FairHouse$Reader" (167 : Nat) ({ cls := "FairHouse$Reader", name := "small", desc := "(II)I" } : Jvm.MethodName)) ∈ lw_all := lw_g (lw_at lw_m4 6 rfl) rfl
theorem q845 : (Jvm.Cond.privateMethod ({ cls := "FairHouse$Reader", name := "small", desc := "(II)I" } : Jvm.MethodName)) ∈ lw_tbl := lw_at lw_m4 7 rfl
theorem q846 : (Jvm.Cond.instanceMethod ({ cls := "FairHouse$Reader", name := "small", desc := "(II)I" } : Jvm.MethodName)) ∈ lw_all := lw_g (lw_at lw_m4 8 rfl) rfl
theorem q847 : (Jvm.Cond.code ({ cls := "FairHouse$Reader", name := "small", desc := "(II)I" } : Jvm.MethodName) prog_22_method_18_code (4 : Nat) (Option.some Jvm.ClassFile.FieldType.int)) ∈ lw_all := lw_g (lw_at lw_m4 9 rfl) rfl
theorem q848 : (Jvm.Cond.methodLink "FairHouse$Reader" (171 : Nat) ({ cls := "FairHouse$Reader", name := "need", desc := "(I)V" } : Jvm.MethodName)) ∈ lw_all := lw_g (lw_at lw_m4 10 rfl) rfl
theorem q849 : (Jvm.Cond.privateMethod ({ cls := "FairHouse$Reader", name := "need", desc := "(I)V" } : Jvm.MethodName)) ∈ lw_tbl := lw_at lw_m4 11 rfl
theorem q850 : (Jvm.Cond.instanceMethod ({ cls := "FairHouse$Reader", name := "need", desc := "(I)V" } : Jvm.MethodName)) ∈ lw_all := lw_g (lw_at lw_m4 12 rfl) rfl
theorem q851 : (Jvm.Cond.code ({ cls := "FairHouse$Reader", name := "need", desc := "(I)V" } : Jvm.MethodName) prog_22_method_13_code (2 : Nat) (Option.none : Option Jvm.ClassFile.FieldType)) ∈ lw_all := lw_g (lw_at lw_m4 13 rfl) rfl
theorem q852 : (Jvm.Cond.methodLink "FairHouse$Reader" (121 : Nat) ({ cls := "FairHouse$Reader", name := "isSign", desc := "(I)Z" } : Jvm.MethodName)) ∈ lw_all := lw_g (lw_at lw_m4 14 rfl) rfl
theorem q853 : (Jvm.Cond.privateMethod ({ cls := "FairHouse$Reader", name := "isSign", desc := "(I)Z" } : Jvm.MethodName)) ∈ lw_tbl := lw_at lw_m4 15 rfl
theorem q854 : (Jvm.Cond.instanceMethod ({ cls := "FairHouse$Reader", name := "isSign", desc := "(I)Z" } : Jvm.MethodName)) ∈ lw_all := lw_g (lw_at lw_m4 16 rfl) rfl
theorem q855 : (Jvm.Cond.code ({ cls := "FairHouse$Reader", name := "isSign", desc := "(I)Z" } : Jvm.MethodName) prog_22_method_10_code (2 : Nat) (Option.some Jvm.ClassFile.FieldType.boolean)) ∈ lw_all := lw_g (lw_at lw_m4 17 rfl) rfl
theorem q856 : (Jvm.Cond.stringRef "FairHouse$Reader" (174 : Nat) "staff") ∈ lw_tbl := lw_at lw_m4 18 rfl
theorem q857 : (Jvm.Cond.methodLink "FairHouse$Reader" (178 : Nat) ({ cls := "FairHouse$Reader", name := "newName", desc := "(II)V" } : Jvm.MethodName)) ∈ lw_all := lw_g (lw_at lw_m4 19 rfl) rfl
theorem q858 : (Jvm.Cond.privateMethod ({ cls := "FairHouse$Reader", name := "newName", desc := "(II)V" } : Jvm.MethodName)) ∈ lw_tbl := lw_at lw_m4 20 rfl
theorem q859 : (Jvm.Cond.instanceMethod ({ cls := "FairHouse$Reader", name := "newName", desc := "(II)V" } : Jvm.MethodName)) ∈ lw_all := lw_g (lw_at lw_m4 21 rfl) rfl
theorem q860 : (Jvm.Cond.code ({ cls := "FairHouse$Reader", name := "newName", desc := "(II)V" } : Jvm.MethodName) prog_22_method_16_code (3 : Nat) (Option.none : Option Jvm.ClassFile.FieldType)) ∈ lw_all := lw_g (lw_at lw_m4 22 rfl) rfl
theorem q861 : (Jvm.Cond.methodLink "FairHouse$Reader" (140 : Nat) ({ cls := "FairHouse$Reader", name := "needWord", desc := "()V" } : Jvm.MethodName)) ∈ lw_all := lw_g (lw_at lw_m4 23 rfl) rfl
theorem q862 : (Jvm.Cond.privateMethod ({ cls := "FairHouse$Reader", name := "needWord", desc := "()V" } : Jvm.MethodName)) ∈ lw_tbl := lw_at lw_m4 24 rfl
theorem q863 : (Jvm.Cond.instanceMethod ({ cls := "FairHouse$Reader", name := "needWord", desc := "()V" } : Jvm.MethodName)) ∈ lw_all := lw_g (lw_at lw_m4 25 rfl) rfl
theorem q864 : (Jvm.Cond.code ({ cls := "FairHouse$Reader", name := "needWord", desc := "()V" } : Jvm.MethodName) prog_22_method_14_code (1 : Nat) (Option.none : Option Jvm.ClassFile.FieldType)) ∈ lw_all := lw_g (lw_at lw_m4 26 rfl) rfl
theorem q865 : (Jvm.Cond.methodLinkNest "FairHouse$Reader" (143 : Nat) ({ cls := "FairHouse", name := "isReserved", desc := "(J)Z" } : Jvm.MethodName) "FairHouse") ∈ lw_tbl := lw_at lw_m4 27 rfl
theorem q877 : (Jvm.Cond.methodLink "FairHouse$Reader" (147 : Nat) ({ cls := "FairHouse$Reader", name := "named", desc := "(J)LFairHouse$Name;" } : Jvm.MethodName)) ∈ lw_all := lw_g (lw_at lw_m4 39 rfl) rfl
theorem q878 : (Jvm.Cond.privateMethod ({ cls := "FairHouse$Reader", name := "named", desc := "(J)LFairHouse$Name;" } : Jvm.MethodName)) ∈ lw_tbl := lw_at lw_m4 40 rfl
theorem q879 : (Jvm.Cond.instanceMethod ({ cls := "FairHouse$Reader", name := "named", desc := "(J)LFairHouse$Name;" } : Jvm.MethodName)) ∈ lw_all := lw_g (lw_at lw_m4 41 rfl) rfl
theorem q880 : (Jvm.Cond.code ({ cls := "FairHouse$Reader", name := "named", desc := "(J)LFairHouse$Name;" } : Jvm.MethodName) prog_22_method_15_code (4 : Nat) (Option.some (Jvm.ClassFile.FieldType.object "FairHouse$Name"))) ∈ lw_all := lw_g (lw_at lw_m4 42 rfl) rfl
theorem q881 : (Jvm.Cond.methodLink "FairHouse$Reader" (128 : Nat) ({ cls := "java/util/ArrayList", name := "size", desc := "()I" } : Jvm.MethodName)) ∈ lw_all := lw_g (lw_at lw_m4 43 rfl) rfl
theorem q885 : (Jvm.Cond.methodLink "FairHouse$Reader" (131 : Nat) ({ cls := "java/util/ArrayList", name := "get", desc := "(I)Ljava/lang/Object;" } : Jvm.MethodName)) ∈ lw_all := lw_g (lw_at lw_m4 47 rfl) rfl
theorem q897 : (Jvm.Cond.classLink "FairHouse$Reader" (135 : Nat) "FairHouse$Name") ∈ lw_all := lw_g (lw_at lw_m4 59 rfl) rfl
theorem q898 : (Jvm.Cond.methodLink "FairHouse$Reader" (137 : Nat) ({ cls := "FairHouse$Name", name := "word", desc := "()J" } : Jvm.MethodName)) ∈ lw_all := lw_g (lw_at lw_m4 60 rfl) rfl
theorem q903 : (Jvm.Cond.methodLinkNest "FairHouse$Reader" (151 : Nat) ({ cls := "FairHouse$Name", name := "<init>", desc := "(JII)V" } : Jvm.MethodName) "FairHouse") ∈ lw_tbl := lw_at lw_m4 65 rfl
theorem q920 : (Jvm.Cond.methodLink "FairHouse$Reader" (154 : Nat) ({ cls := "java/util/ArrayList", name := "add", desc := "(Ljava/lang/Object;)Z" } : Jvm.MethodName)) ∈ lw_all := lw_g (lw_at lw_m4 82 rfl) rfl
theorem q958 : (Jvm.Cond.selects "FairHouse$Reader" ({ cls := "java/lang/Object", name := "getClass", desc := "()Ljava/lang/Class;" } : Jvm.MethodName) ({ cls := "java/lang/Object", name := "getClass", desc := "()Ljava/lang/Class;" } : Jvm.MethodName)) ∈ lw_all := lw_g (lw_at lw_m4 120 rfl) rfl
theorem q988 : (Jvm.Cond.stringRef "FairHouse$Reader" (181 : Nat) "flag") ∈ lw_tbl := lw_at lw_m4 150 rfl
theorem q989 : (Jvm.Cond.stringRef "FairHouse$Reader" (186 : Nat) "ride") ∈ lw_tbl := lw_at lw_m4 151 rfl
theorem q990 : (Jvm.Cond.methodLink "FairHouse$Reader" (188 : Nat) ({ cls := "FairHouse$Reader", name := "ride", desc := "()V" } : Jvm.MethodName)) ∈ lw_all := lw_g (lw_at lw_m4 152 rfl) rfl
theorem q991 : (Jvm.Cond.privateMethod ({ cls := "FairHouse$Reader", name := "ride", desc := "()V" } : Jvm.MethodName)) ∈ lw_tbl := lw_at lw_m4 153 rfl
theorem q992 : (Jvm.Cond.instanceMethod ({ cls := "FairHouse$Reader", name := "ride", desc := "()V" } : Jvm.MethodName)) ∈ lw_all := lw_g (lw_at lw_m4 154 rfl) rfl
theorem q993 : (Jvm.Cond.code ({ cls := "FairHouse$Reader", name := "ride", desc := "()V" } : Jvm.MethodName) prog_22_method_21_code (4 : Nat) (Option.none : Option Jvm.ClassFile.FieldType)) ∈ lw_all := lw_g (lw_at lw_m4 155 rfl) rfl
theorem q994 : (Jvm.Cond.stringRef "FairHouse$Reader" (202 : Nat) "wheel tower swing organ arch comet ghost star tail ") ∈ lw_tbl := lw_at lw_m4 156 rfl
theorem q995 : (Jvm.Cond.methodLinkNest "FairHouse$Reader" (204 : Nat) ({ cls := "FairHouse", name := "among", desc := "(Ljava/lang/String;J)I" } : Jvm.MethodName) "FairHouse") ∈ lw_tbl := lw_at lw_m4 157 rfl
theorem q996 : (Jvm.Cond.methodLink "FairHouse$Reader" (208 : Nat) ({ cls := "FairHouse$Reader", name := "mosts", desc := "(I)[I" } : Jvm.MethodName)) ∈ lw_all := lw_g (lw_at lw_m4 158 rfl) rfl
theorem q997 : (Jvm.Cond.static ({ cls := "FairHouse$Reader", name := "mosts", desc := "(I)[I" } : Jvm.MethodName)) ∈ lw_all := lw_g (lw_at lw_m4 159 rfl) rfl
theorem q998 : (Jvm.Cond.code ({ cls := "FairHouse$Reader", name := "mosts", desc := "(I)[I" } : Jvm.MethodName) prog_22_method_20_code (1 : Nat) (Option.some (Jvm.ClassFile.FieldType.array Jvm.ClassFile.FieldType.int))) ∈ lw_all := lw_g (lw_at lw_m4 160 rfl) rfl
theorem q999 : (Jvm.Cond.methodLink "FairHouse$Reader" (212 : Nat) ({ cls := "FairHouse$Reader", name := "made", desc := "(I[I)LFairHouse$Ride;" } : Jvm.MethodName)) ∈ lw_all := lw_g (lw_at lw_m4 161 rfl) rfl
theorem q1000 : (Jvm.Cond.privateMethod ({ cls := "FairHouse$Reader", name := "made", desc := "(I[I)LFairHouse$Ride;" } : Jvm.MethodName)) ∈ lw_tbl := lw_at lw_m4 162 rfl
theorem q1001 : (Jvm.Cond.instanceMethod ({ cls := "FairHouse$Reader", name := "made", desc := "(I[I)LFairHouse$Ride;" } : Jvm.MethodName)) ∈ lw_all := lw_g (lw_at lw_m4 163 rfl) rfl
theorem q1002 : (Jvm.Cond.code ({ cls := "FairHouse$Reader", name := "made", desc := "(I[I)LFairHouse$Ride;" } : Jvm.MethodName) prog_22_method_22_code (3 : Nat) (Option.some (Jvm.ClassFile.FieldType.object "FairHouse$Ride"))) ∈ lw_all := lw_g (lw_at lw_m4 164 rfl) rfl
theorem q1003 : (Jvm.Cond.classLink "FairHouse$Reader" (241 : Nat) "FairHouse$Wheel") ∈ lw_all := lw_g (lw_at lw_m4 165 rfl) rfl
theorem q1005 : (Jvm.Cond.methodLink "FairHouse$Reader" (243 : Nat) ({ cls := "FairHouse$Wheel", name := "<init>", desc := "([I)V" } : Jvm.MethodName)) ∈ lw_all := lw_g (lw_at lw_m4 167 rfl) rfl
theorem q1021 : (Jvm.Cond.fieldLinkNest "FairHouse$Reader" (286 : Nat) "FairHouse$Script" "acts" "Ljava/util/ArrayList;" "FairHouse") ∈ lw_tbl := lw_at lw_m4 183 rfl
theorem q1140 : (Jvm.Cond.fieldLink "FairHouse$Reader" (229 : Nat) "FairHouse$Ride" "script" "LFairHouse$Script;") ∈ lw_all := lw_g (lw_at lw_m5 62 rfl) rfl
theorem q1153 : (Jvm.Cond.classLink "FairHouse$Reader" (246 : Nat) "FairHouse$Tower") ∈ lw_all := lw_g (lw_at lw_m5 75 rfl) rfl
theorem q1155 : (Jvm.Cond.methodLink "FairHouse$Reader" (248 : Nat) ({ cls := "FairHouse$Tower", name := "<init>", desc := "([I)V" } : Jvm.MethodName)) ∈ lw_all := lw_g (lw_at lw_m5 77 rfl) rfl
theorem q1203 : (Jvm.Cond.classLink "FairHouse$Reader" (249 : Nat) "FairHouse$Swing") ∈ lw_all := lw_g (lw_at lw_m5 125 rfl) rfl
theorem q1205 : (Jvm.Cond.methodLink "FairHouse$Reader" (251 : Nat) ({ cls := "FairHouse$Swing", name := "<init>", desc := "([I)V" } : Jvm.MethodName)) ∈ lw_all := lw_g (lw_at lw_m5 127 rfl) rfl
theorem q1228 : (Jvm.Cond.classLink "FairHouse$Reader" (252 : Nat) "FairHouse$Organ") ∈ lw_all := lw_g (lw_at lw_m5 150 rfl) rfl
theorem q1230 : (Jvm.Cond.methodLink "FairHouse$Reader" (254 : Nat) ({ cls := "FairHouse$Organ", name := "<init>", desc := "([I)V" } : Jvm.MethodName)) ∈ lw_all := lw_g (lw_at lw_m5 152 rfl) rfl
theorem q1261 : (Jvm.Cond.classLink "FairHouse$Reader" (255 : Nat) "FairHouse$Arch") ∈ lw_all := lw_g (lw_at lw_m5 183 rfl) rfl
theorem q1263 : (Jvm.Cond.methodLink "FairHouse$Reader" (257 : Nat) ({ cls := "FairHouse$Arch", name := "<init>", desc := "([I)V" } : Jvm.MethodName)) ∈ lw_all := lw_g (lw_at lw_m5 185 rfl) rfl
theorem q1291 : (Jvm.Cond.classLink "FairHouse$Reader" (258 : Nat) "FairHouse$Comet") ∈ lw_all := lw_g (lw_at lw_m5 213 rfl) rfl
theorem q1293 : (Jvm.Cond.methodLink "FairHouse$Reader" (260 : Nat) ({ cls := "FairHouse$Comet", name := "<init>", desc := "([I)V" } : Jvm.MethodName)) ∈ lw_all := lw_g (lw_at lw_m5 215 rfl) rfl
theorem q1316 : (Jvm.Cond.classLink "FairHouse$Reader" (261 : Nat) "FairHouse$Ghost") ∈ lw_all := lw_g (lw_at lw_m5 238 rfl) rfl
theorem q1318 : (Jvm.Cond.methodLink "FairHouse$Reader" (263 : Nat) ({ cls := "FairHouse$Ghost", name := "<init>", desc := "([I)V" } : Jvm.MethodName)) ∈ lw_all := lw_g (lw_at lw_m6 0 rfl) rfl
theorem q1341 : (Jvm.Cond.classLink "FairHouse$Reader" (264 : Nat) "FairHouse$Star") ∈ lw_all := lw_g (lw_at lw_m6 23 rfl) rfl
theorem q1343 : (Jvm.Cond.methodLink "FairHouse$Reader" (266 : Nat) ({ cls := "FairHouse$Star", name := "<init>", desc := "([I)V" } : Jvm.MethodName)) ∈ lw_all := lw_g (lw_at lw_m6 25 rfl) rfl
theorem q1376 : (Jvm.Cond.classLink "FairHouse$Reader" (267 : Nat) "FairHouse$Tail") ∈ lw_all := lw_g (lw_at lw_m6 58 rfl) rfl
theorem q1378 : (Jvm.Cond.methodLink "FairHouse$Reader" (269 : Nat) ({ cls := "FairHouse$Reader", name := "leader", desc := "()LFairHouse$Spin;" } : Jvm.MethodName)) ∈ lw_all := lw_g (lw_at lw_m6 60 rfl) rfl
theorem q1379 : (Jvm.Cond.privateMethod ({ cls := "FairHouse$Reader", name := "leader", desc := "()LFairHouse$Spin;" } : Jvm.MethodName)) ∈ lw_tbl := lw_at lw_m6 61 rfl
theorem q1380 : (Jvm.Cond.instanceMethod ({ cls := "FairHouse$Reader", name := "leader", desc := "()LFairHouse$Spin;" } : Jvm.MethodName)) ∈ lw_all := lw_g (lw_at lw_m6 62 rfl) rfl
theorem q1381 : (Jvm.Cond.code ({ cls := "FairHouse$Reader", name := "leader", desc := "()LFairHouse$Spin;" } : Jvm.MethodName) prog_22_method_23_code (4 : Nat) (Option.some (Jvm.ClassFile.FieldType.object "FairHouse$Spin"))) ∈ lw_all := lw_g (lw_at lw_m6 63 rfl) rfl
theorem q1382 : (Jvm.Cond.methodLink "FairHouse$Reader" (158 : Nat) ({ cls := "FairHouse$Name", name := "sort", desc := "()I" } : Jvm.MethodName)) ∈ lw_all := lw_g (lw_at lw_m6 64 rfl) rfl
theorem q1386 : (Jvm.Cond.methodLink "FairHouse$Reader" (160 : Nat) ({ cls := "FairHouse$Name", name := "number", desc := "()I" } : Jvm.MethodName)) ∈ lw_all := lw_g (lw_at lw_m6 68 rfl) rfl
theorem q1390 : (Jvm.Cond.classLink "FairHouse$Reader" (197 : Nat) "FairHouse$Ride") ∈ lw_all := lw_g (lw_at lw_m6 72 rfl) rfl
theorem q1391 : (Jvm.Cond.classLink "FairHouse$Reader" (276 : Nat) "FairHouse$Turns") ∈ lw_all := lw_g (lw_at lw_m6 73 rfl) rfl
theorem q1392 : (Jvm.Cond.classLink "FairHouse$Reader" (278 : Nat) "FairHouse$Hitched") ∈ lw_all := lw_g (lw_at lw_m6 74 rfl) rfl
theorem q1393 : (Jvm.Cond.interfaceEntry "FairHouse$Reader" (280 : Nat)) ∈ lw_tbl := lw_at lw_m6 75 rfl
theorem q1394 : (Jvm.Cond.methodLink "FairHouse$Reader" (280 : Nat) ({ cls := "FairHouse$Turns", name := "spin", desc := "()LFairHouse$Spin;" } : Jvm.MethodName)) ∈ lw_all := lw_g (lw_at lw_m6 76 rfl) rfl
theorem q1427 : (Jvm.Cond.methodLink "FairHouse$Reader" (273 : Nat) ({ cls := "FairHouse$Tail", name := "<init>", desc := "([ILFairHouse$Spin;)V" } : Jvm.MethodName)) ∈ lw_all := lw_g (lw_at lw_m6 109 rfl) rfl
theorem q1448 : (Jvm.Cond.methodLink "FairHouse$Reader" (226 : Nat) ({ cls := "FairHouse$Reader", name := "block", desc := "()V" } : Jvm.MethodName)) ∈ lw_all := lw_g (lw_at lw_m6 130 rfl) rfl
theorem q1449 : (Jvm.Cond.privateMethod ({ cls := "FairHouse$Reader", name := "block", desc := "()V" } : Jvm.MethodName)) ∈ lw_tbl := lw_at lw_m6 131 rfl
theorem q1450 : (Jvm.Cond.instanceMethod ({ cls := "FairHouse$Reader", name := "block", desc := "()V" } : Jvm.MethodName)) ∈ lw_all := lw_g (lw_at lw_m6 132 rfl) rfl
theorem q1451 : (Jvm.Cond.code ({ cls := "FairHouse$Reader", name := "block", desc := "()V" } : Jvm.MethodName) prog_22_method_24_code (1 : Nat) (Option.none : Option Jvm.ClassFile.FieldType)) ∈ lw_all := lw_g (lw_at lw_m6 133 rfl) rfl
theorem q1452 : (Jvm.Cond.methodLink "FairHouse$Reader" (283 : Nat) ({ cls := "FairHouse$Reader", name := "step", desc := "()V" } : Jvm.MethodName)) ∈ lw_all := lw_g (lw_at lw_m6 134 rfl) rfl
theorem q1453 : (Jvm.Cond.privateMethod ({ cls := "FairHouse$Reader", name := "step", desc := "()V" } : Jvm.MethodName)) ∈ lw_tbl := lw_at lw_m6 135 rfl
theorem q1454 : (Jvm.Cond.instanceMethod ({ cls := "FairHouse$Reader", name := "step", desc := "()V" } : Jvm.MethodName)) ∈ lw_all := lw_g (lw_at lw_m6 136 rfl) rfl
theorem q1455 : (Jvm.Cond.code ({ cls := "FairHouse$Reader", name := "step", desc := "()V" } : Jvm.MethodName) prog_22_method_28_code (4 : Nat) (Option.none : Option Jvm.ClassFile.FieldType)) ∈ lw_all := lw_g (lw_at lw_m6 137 rfl) rfl
theorem q1456 : (Jvm.Cond.methodLink "FairHouse$Reader" (297 : Nat) ({ cls := "FairHouse$Reader", name := "registerOf", desc := "(J)I" } : Jvm.MethodName)) ∈ lw_all := lw_g (lw_at lw_m6 138 rfl) rfl
theorem q1457 : (Jvm.Cond.static ({ cls := "FairHouse$Reader", name := "registerOf", desc := "(J)I" } : Jvm.MethodName)) ∈ lw_all := lw_g (lw_at lw_m6 139 rfl) rfl
theorem q1458 : (Jvm.Cond.code ({ cls := "FairHouse$Reader", name := "registerOf", desc := "(J)I" } : Jvm.MethodName) prog_22_method_32_code (3 : Nat) (Option.some Jvm.ClassFile.FieldType.int)) ∈ lw_all := lw_g (lw_at lw_m6 140 rfl) rfl
theorem q1459 : (Jvm.Cond.stringRef "FairHouse$Reader" (356 : Nat) "power staff flag ride on else up and or not why clock wind r0 r1 r2 r3 ") ∈ lw_tbl := lw_at lw_m6 141 rfl
theorem q1460 : (Jvm.Cond.stringRef "FairHouse$Reader" (301 : Nat) "spin lift glow sound load unload mend wait until claim free raise lower let repeat loop if guard leave stop ") ∈ lw_tbl := lw_at lw_m6 142 rfl
theorem q1461 : (Jvm.Cond.methodLink "FairHouse$Reader" (303 : Nat) ({ cls := "FairHouse$Reader", name := "canDo", desc := "(I)Z" } : Jvm.MethodName)) ∈ lw_all := lw_g (lw_at lw_m6 143 rfl) rfl
theorem q1462 : (Jvm.Cond.privateMethod ({ cls := "FairHouse$Reader", name := "canDo", desc := "(I)Z" } : Jvm.MethodName)) ∈ lw_tbl := lw_at lw_m6 144 rfl
theorem q1463 : (Jvm.Cond.instanceMethod ({ cls := "FairHouse$Reader", name := "canDo", desc := "(I)Z" } : Jvm.MethodName)) ∈ lw_all := lw_g (lw_at lw_m6 145 rfl) rfl
theorem q1464 : (Jvm.Cond.code ({ cls := "FairHouse$Reader", name := "canDo", desc := "(I)Z" } : Jvm.MethodName) prog_22_method_27_code (2 : Nat) (Option.some Jvm.ClassFile.FieldType.boolean)) ∈ lw_all := lw_g (lw_at lw_m6 146 rfl) rfl
theorem q1465 : (Jvm.Cond.classLink "FairHouse$Reader" (289 : Nat) "FairHouse$Lifts") ∈ lw_all := lw_g (lw_at lw_m6 147 rfl) rfl
theorem q1466 : (Jvm.Cond.classLink "FairHouse$Reader" (291 : Nat) "FairHouse$Lamps") ∈ lw_all := lw_g (lw_at lw_m6 148 rfl) rfl
theorem q1467 : (Jvm.Cond.classLink "FairHouse$Reader" (293 : Nat) "FairHouse$Sounds") ∈ lw_all := lw_g (lw_at lw_m6 149 rfl) rfl
theorem q1468 : (Jvm.Cond.classLink "FairHouse$Reader" (295 : Nat) "FairHouse$Seats") ∈ lw_all := lw_g (lw_at lw_m6 150 rfl) rfl
theorem q1469 : (Jvm.Cond.methodLink "FairHouse$Reader" (306 : Nat) ({ cls := "FairHouse$Reader", name := "act", desc := "(II)LFairHouse$Act;" } : Jvm.MethodName)) ∈ lw_all := lw_g (lw_at lw_m6 151 rfl) rfl
theorem q1470 : (Jvm.Cond.privateMethod ({ cls := "FairHouse$Reader", name := "act", desc := "(II)LFairHouse$Act;" } : Jvm.MethodName)) ∈ lw_tbl := lw_at lw_m6 152 rfl
theorem q1471 : (Jvm.Cond.instanceMethod ({ cls := "FairHouse$Reader", name := "act", desc := "(II)LFairHouse$Act;" } : Jvm.MethodName)) ∈ lw_all := lw_g (lw_at lw_m6 153 rfl) rfl
theorem q1472 : (Jvm.Cond.code ({ cls := "FairHouse$Reader", name := "act", desc := "(II)LFairHouse$Act;" } : Jvm.MethodName) prog_22_method_25_code (4 : Nat) (Option.some (Jvm.ClassFile.FieldType.object "FairHouse$Act"))) ∈ lw_all := lw_g (lw_at lw_m6 154 rfl) rfl
theorem q1473 : (Jvm.Cond.classLink "FairHouse$Reader" (233 : Nat) "FairHouse$Act") ∈ lw_all := lw_g (lw_at lw_m6 155 rfl) rfl
theorem q1475 : (Jvm.Cond.methodLink "FairHouse$Reader" (235 : Nat) ({ cls := "FairHouse$Act", name := "<init>", desc := "(II)V" } : Jvm.MethodName)) ∈ lw_all := lw_g (lw_at lw_m6 157 rfl) rfl
theorem q1482 : (Jvm.Cond.fieldLinkNest "FairHouse$Reader" (339 : Nat) "FairHouse$Act" "op" "I" "FairHouse") ∈ lw_tbl := lw_at lw_m6 164 rfl
theorem q1485 : (Jvm.Cond.fieldLinkNest "FairHouse$Reader" (345 : Nat) "FairHouse$Act" "at" "I" "FairHouse") ∈ lw_tbl := lw_at lw_m6 167 rfl
theorem q1487 : (Jvm.Cond.fieldLinkNest "FairHouse$Reader" (314 : Nat) "FairHouse$Act" "expr" "LFairHouse$Expr;" "FairHouse") ∈ lw_tbl := lw_at lw_m6 169 rfl
theorem q1489 : (Jvm.Cond.fieldLinkNest "FairHouse$Reader" (323 : Nat) "FairHouse$Act" "cond" "LFairHouse$Cond;" "FairHouse") ∈ lw_tbl := lw_at lw_m6 171 rfl
theorem q1491 : (Jvm.Cond.fieldLinkNest "FairHouse$Reader" (318 : Nat) "FairHouse$Act" "number" "I" "FairHouse") ∈ lw_tbl := lw_at lw_m6 173 rfl
theorem q1493 : (Jvm.Cond.fieldLinkNest "FairHouse$Reader" (346 : Nat) "FairHouse$Act" "to" "I" "FairHouse") ∈ lw_tbl := lw_at lw_m6 175 rfl
theorem q1508 : (Jvm.Cond.methodLink "FairHouse$Reader" (236 : Nat) ({ cls := "FairHouse$Script", name := "add", desc := "(LFairHouse$Act;)I" } : Jvm.MethodName)) ∈ lw_all := lw_g (lw_at lw_m6 190 rfl) rfl
theorem q1514 : (Jvm.Cond.methodLink "FairHouse$Reader" (310 : Nat) ({ cls := "FairHouse$Reader", name := "whole", desc := "()LFairHouse$Expr;" } : Jvm.MethodName)) ∈ lw_all := lw_g (lw_at lw_m6 196 rfl) rfl
theorem q1515 : (Jvm.Cond.privateMethod ({ cls := "FairHouse$Reader", name := "whole", desc := "()LFairHouse$Expr;" } : Jvm.MethodName)) ∈ lw_tbl := lw_at lw_m6 197 rfl
theorem q1516 : (Jvm.Cond.instanceMethod ({ cls := "FairHouse$Reader", name := "whole", desc := "()LFairHouse$Expr;" } : Jvm.MethodName)) ∈ lw_all := lw_g (lw_at lw_m6 198 rfl) rfl
theorem q1517 : (Jvm.Cond.code ({ cls := "FairHouse$Reader", name := "whole", desc := "()LFairHouse$Expr;" } : Jvm.MethodName) prog_22_method_33_code (3 : Nat) (Option.some (Jvm.ClassFile.FieldType.object "FairHouse$Expr"))) ∈ lw_all := lw_g (lw_at lw_m6 199 rfl) rfl
theorem q1518 : (Jvm.Cond.methodLink "FairHouse$Reader" (361 : Nat) ({ cls := "FairHouse$Reader", name := "sum", desc := "()LFairHouse$Expr;" } : Jvm.MethodName)) ∈ lw_all := lw_g (lw_at lw_m6 200 rfl) rfl
theorem q1519 : (Jvm.Cond.privateMethod ({ cls := "FairHouse$Reader", name := "sum", desc := "()LFairHouse$Expr;" } : Jvm.MethodName)) ∈ lw_tbl := lw_at lw_m6 201 rfl
theorem q1520 : (Jvm.Cond.instanceMethod ({ cls := "FairHouse$Reader", name := "sum", desc := "()LFairHouse$Expr;" } : Jvm.MethodName)) ∈ lw_all := lw_g (lw_at lw_m6 202 rfl) rfl
theorem q1521 : (Jvm.Cond.code ({ cls := "FairHouse$Reader", name := "sum", desc := "()LFairHouse$Expr;" } : Jvm.MethodName) prog_22_method_34_code (4 : Nat) (Option.some (Jvm.ClassFile.FieldType.object "FairHouse$Expr"))) ∈ lw_all := lw_g (lw_at lw_m6 203 rfl) rfl
theorem q1522 : (Jvm.Cond.methodLink "FairHouse$Reader" (364 : Nat) ({ cls := "FairHouse$Reader", name := "product", desc := "()LFairHouse$Expr;" } : Jvm.MethodName)) ∈ lw_all := lw_g (lw_at lw_m6 204 rfl) rfl
theorem q1523 : (Jvm.Cond.privateMethod ({ cls := "FairHouse$Reader", name := "product", desc := "()LFairHouse$Expr;" } : Jvm.MethodName)) ∈ lw_tbl := lw_at lw_m6 205 rfl
theorem q1524 : (Jvm.Cond.instanceMethod ({ cls := "FairHouse$Reader", name := "product", desc := "()LFairHouse$Expr;" } : Jvm.MethodName)) ∈ lw_all := lw_g (lw_at lw_m6 206 rfl) rfl
theorem q1525 : (Jvm.Cond.code ({ cls := "FairHouse$Reader", name := "product", desc := "()LFairHouse$Expr;" } : Jvm.MethodName) prog_22_method_35_code (4 : Nat) (Option.some (Jvm.ClassFile.FieldType.object "FairHouse$Expr"))) ∈ lw_all := lw_g (lw_at lw_m6 207 rfl) rfl
theorem q1526 : (Jvm.Cond.methodLink "FairHouse$Reader" (375 : Nat) ({ cls := "FairHouse$Reader", name := "factor", desc := "()LFairHouse$Expr;" } : Jvm.MethodName)) ∈ lw_all := lw_g (lw_at lw_m6 208 rfl) rfl
theorem q1527 : (Jvm.Cond.privateMethod ({ cls := "FairHouse$Reader", name := "factor", desc := "()LFairHouse$Expr;" } : Jvm.MethodName)) ∈ lw_tbl := lw_at lw_m6 209 rfl
theorem q1528 : (Jvm.Cond.instanceMethod ({ cls := "FairHouse$Reader", name := "factor", desc := "()LFairHouse$Expr;" } : Jvm.MethodName)) ∈ lw_all := lw_g (lw_at lw_m6 210 rfl) rfl
theorem q1529 : (Jvm.Cond.code ({ cls := "FairHouse$Reader", name := "factor", desc := "()LFairHouse$Expr;" } : Jvm.MethodName) prog_22_method_36_code (3 : Nat) (Option.some (Jvm.ClassFile.FieldType.object "FairHouse$Expr"))) ∈ lw_all := lw_g (lw_at lw_m6 211 rfl) rfl
theorem q1530 : (Jvm.Cond.classLink "FairHouse$Reader" (378 : Nat) "FairHouse$Minus") ∈ lw_all := lw_g (lw_at lw_m6 212 rfl) rfl
theorem q1532 : (Jvm.Cond.methodLink "FairHouse$Reader" (380 : Nat) ({ cls := "FairHouse$Minus", name := "<init>", desc := "(LFairHouse$Expr;)V" } : Jvm.MethodName)) ∈ lw_all := lw_g (lw_at lw_m6 214 rfl) rfl
theorem q1543 : (Jvm.Cond.classLink "FairHouse$Reader" (381 : Nat) "FairHouse$Num") ∈ lw_all := lw_g (lw_at lw_m6 225 rfl) rfl
theorem q1545 : (Jvm.Cond.methodLink "FairHouse$Reader" (383 : Nat) ({ cls := "FairHouse$Num", name := "<init>", desc := "(I)V" } : Jvm.MethodName)) ∈ lw_all := lw_g (lw_at lw_m6 227 rfl) rfl
theorem q1553 : (Jvm.Cond.methodLink "FairHouse$Reader" (384 : Nat) ({ cls := "FairHouse$Reader", name := "told", desc := "()LFairHouse$Expr;" } : Jvm.MethodName)) ∈ lw_all := lw_g (lw_at lw_m6 235 rfl) rfl
theorem q1554 : (Jvm.Cond.privateMethod ({ cls := "FairHouse$Reader", name := "told", desc := "()LFairHouse$Expr;" } : Jvm.MethodName)) ∈ lw_tbl := lw_at lw_m6 236 rfl
theorem q1555 : (Jvm.Cond.instanceMethod ({ cls := "FairHouse$Reader", name := "told", desc := "()LFairHouse$Expr;" } : Jvm.MethodName)) ∈ lw_all := lw_g (lw_at lw_m6 237 rfl) rfl
theorem q1556 : (Jvm.Cond.code ({ cls := "FairHouse$Reader", name := "told", desc := "()LFairHouse$Expr;" } : Jvm.MethodName) prog_22_method_37_code (9 : Nat) (Option.some (Jvm.ClassFile.FieldType.object "FairHouse$Expr"))) ∈ lw_all := lw_g (lw_at lw_m6 238 rfl) rfl
theorem q1557 : (Jvm.Cond.stringRef "FairHouse$Reader" (387 : Nat) "speed height aboard glow volume wear queue ") ∈ lw_tbl := lw_at lw_m6 239 rfl
theorem q1558 : (Jvm.Cond.stringRef "FairHouse$Reader" (389 : Nat) "why") ∈ lw_tbl := lw_at lw_m7 0 rfl
theorem q1559 : (Jvm.Cond.stringRef "FairHouse$Reader" (391 : Nat) "clock") ∈ lw_tbl := lw_at lw_m7 1 rfl
theorem q1560 : (Jvm.Cond.stringRef "FairHouse$Reader" (393 : Nat) "wind") ∈ lw_tbl := lw_at lw_m7 2 rfl
theorem q1561 : (Jvm.Cond.classLink "FairHouse$Reader" (190 : Nat) "FairHouse$Reading") ∈ lw_all := lw_g (lw_at lw_m7 3 rfl) rfl
theorem q1563 : (Jvm.Cond.methodLink "FairHouse$Reader" (395 : Nat) ({ cls := "FairHouse$Reading", name := "<init>", desc := "(IJI)V" } : Jvm.MethodName)) ∈ lw_all := lw_g (lw_at lw_m7 5 rfl) rfl
theorem q1569 : (Jvm.Cond.fieldLinkNest "FairHouse$Reader" (195 : Nat) "FairHouse$Reading" "at" "I" "FairHouse") ∈ lw_tbl := lw_at lw_m7 11 rfl
theorem q1571 : (Jvm.Cond.fieldLinkNest "FairHouse$Reader" (192 : Nat) "FairHouse$Reading" "name" "J" "FairHouse") ∈ lw_tbl := lw_at lw_m7 13 rfl
theorem q1573 : (Jvm.Cond.fieldLinkNest "FairHouse$Reader" (199 : Nat) "FairHouse$Reading" "ride" "LFairHouse$Ride;" "FairHouse") ∈ lw_tbl := lw_at lw_m7 15 rfl
theorem q1583 : (Jvm.Cond.classLink "FairHouse$Reader" (398 : Nat) "FairHouse$Register") ∈ lw_all := lw_g (lw_at lw_m7 25 rfl) rfl
theorem q1585 : (Jvm.Cond.methodLink "FairHouse$Reader" (400 : Nat) ({ cls := "FairHouse$Register", name := "<init>", desc := "(I)V" } : Jvm.MethodName)) ∈ lw_all := lw_g (lw_at lw_m7 27 rfl) rfl
theorem q1593 : (Jvm.Cond.classLink "FairHouse$Reader" (401 : Nat) "FairHouse$Given") ∈ lw_all := lw_g (lw_at lw_m7 35 rfl) rfl
theorem q1595 : (Jvm.Cond.methodLink "FairHouse$Reader" (403 : Nat) ({ cls := "FairHouse$Given", name := "<init>", desc := "(I)V" } : Jvm.MethodName)) ∈ lw_all := lw_g (lw_at lw_m7 37 rfl) rfl
theorem q1603 : (Jvm.Cond.classLink "FairHouse$Reader" (367 : Nat) "FairHouse$Chain") ∈ lw_all := lw_g (lw_at lw_m7 45 rfl) rfl
theorem q1605 : (Jvm.Cond.methodLink "FairHouse$Reader" (369 : Nat) ({ cls := "FairHouse$Chain", name := "<init>", desc := "(LFairHouse$Expr;)V" } : Jvm.MethodName)) ∈ lw_all := lw_g (lw_at lw_m7 47 rfl) rfl
theorem q1621 : (Jvm.Cond.methodLink "FairHouse$Reader" (372 : Nat) ({ cls := "FairHouse$Chain", name := "add", desc := "(ILFairHouse$Expr;)V" } : Jvm.MethodName)) ∈ lw_all := lw_g (lw_at lw_m7 63 rfl) rfl
theorem q1628 : (Jvm.Cond.methodLink "FairHouse$Reader" (319 : Nat) ({ cls := "FairHouse$Reader", name := "cond", desc := "()LFairHouse$Cond;" } : Jvm.MethodName)) ∈ lw_all := lw_g (lw_at lw_m7 70 rfl) rfl
theorem q1629 : (Jvm.Cond.privateMethod ({ cls := "FairHouse$Reader", name := "cond", desc := "()LFairHouse$Cond;" } : Jvm.MethodName)) ∈ lw_tbl := lw_at lw_m7 71 rfl
theorem q1630 : (Jvm.Cond.instanceMethod ({ cls := "FairHouse$Reader", name := "cond", desc := "()LFairHouse$Cond;" } : Jvm.MethodName)) ∈ lw_all := lw_g (lw_at lw_m7 72 rfl) rfl
theorem q1631 : (Jvm.Cond.code ({ cls := "FairHouse$Reader", name := "cond", desc := "()LFairHouse$Cond;" } : Jvm.MethodName) prog_22_method_38_code (3 : Nat) (Option.some (Jvm.ClassFile.FieldType.object "FairHouse$Cond"))) ∈ lw_all := lw_g (lw_at lw_m7 73 rfl) rfl
theorem q1632 : (Jvm.Cond.methodLink "FairHouse$Reader" (404 : Nat) ({ cls := "FairHouse$Reader", name := "one", desc := "()LFairHouse$Cond;" } : Jvm.MethodName)) ∈ lw_all := lw_g (lw_at lw_m7 74 rfl) rfl
theorem q1633 : (Jvm.Cond.privateMethod ({ cls := "FairHouse$Reader", name := "one", desc := "()LFairHouse$Cond;" } : Jvm.MethodName)) ∈ lw_tbl := lw_at lw_m7 75 rfl
theorem q1634 : (Jvm.Cond.instanceMethod ({ cls := "FairHouse$Reader", name := "one", desc := "()LFairHouse$Cond;" } : Jvm.MethodName)) ∈ lw_all := lw_g (lw_at lw_m7 76 rfl) rfl
theorem q1635 : (Jvm.Cond.code ({ cls := "FairHouse$Reader", name := "one", desc := "()LFairHouse$Cond;" } : Jvm.MethodName) prog_22_method_39_code (5 : Nat) (Option.some (Jvm.ClassFile.FieldType.object "FairHouse$Cond"))) ∈ lw_all := lw_g (lw_at lw_m7 77 rfl) rfl
theorem q1636 : (Jvm.Cond.stringRef "FairHouse$Reader" (422 : Nat) "not") ∈ lw_tbl := lw_at lw_m7 78 rfl
theorem q1637 : (Jvm.Cond.stringRef "FairHouse$Reader" (424 : Nat) "up") ∈ lw_tbl := lw_at lw_m7 79 rfl
theorem q1638 : (Jvm.Cond.methodLink "FairHouse$Reader" (353 : Nat) ({ cls := "FairHouse$Reader", name := "takes", desc := "(Ljava/lang/String;)Z" } : Jvm.MethodName)) ∈ lw_all := lw_g (lw_at lw_m7 80 rfl) rfl
theorem q1639 : (Jvm.Cond.privateMethod ({ cls := "FairHouse$Reader", name := "takes", desc := "(Ljava/lang/String;)Z" } : Jvm.MethodName)) ∈ lw_tbl := lw_at lw_m7 81 rfl
theorem q1640 : (Jvm.Cond.instanceMethod ({ cls := "FairHouse$Reader", name := "takes", desc := "(Ljava/lang/String;)Z" } : Jvm.MethodName)) ∈ lw_all := lw_g (lw_at lw_m7 82 rfl) rfl
theorem q1641 : (Jvm.Cond.code ({ cls := "FairHouse$Reader", name := "takes", desc := "(Ljava/lang/String;)Z" } : Jvm.MethodName) prog_22_method_12_code (2 : Nat) (Option.some Jvm.ClassFile.FieldType.boolean)) ∈ lw_all := lw_g (lw_at lw_m7 83 rfl) rfl
theorem q1642 : (Jvm.Cond.classLink "FairHouse$Reader" (426 : Nat) "FairHouse$Up") ∈ lw_all := lw_g (lw_at lw_m7 84 rfl) rfl
theorem q1644 : (Jvm.Cond.methodLink "FairHouse$Reader" (326 : Nat) ({ cls := "FairHouse$Reader", name := "old", desc := "(I)I" } : Jvm.MethodName)) ∈ lw_all := lw_g (lw_at lw_m7 86 rfl) rfl
theorem q1645 : (Jvm.Cond.privateMethod ({ cls := "FairHouse$Reader", name := "old", desc := "(I)I" } : Jvm.MethodName)) ∈ lw_tbl := lw_at lw_m7 87 rfl
theorem q1646 : (Jvm.Cond.instanceMethod ({ cls := "FairHouse$Reader", name := "old", desc := "(I)I" } : Jvm.MethodName)) ∈ lw_all := lw_g (lw_at lw_m7 88 rfl) rfl
theorem q1647 : (Jvm.Cond.code ({ cls := "FairHouse$Reader", name := "old", desc := "(I)I" } : Jvm.MethodName) prog_22_method_17_code (3 : Nat) (Option.some Jvm.ClassFile.FieldType.int)) ∈ lw_all := lw_g (lw_at lw_m7 89 rfl) rfl
theorem q1648 : (Jvm.Cond.methodLink "FairHouse$Reader" (428 : Nat) ({ cls := "FairHouse$Up", name := "<init>", desc := "(IZ)V" } : Jvm.MethodName)) ∈ lw_all := lw_g (lw_at lw_m7 90 rfl) rfl
theorem q1662 : (Jvm.Cond.classLink "FairHouse$Reader" (431 : Nat) "FairHouse$Compare") ∈ lw_all := lw_g (lw_at lw_m7 104 rfl) rfl
theorem q1664 : (Jvm.Cond.methodLink "FairHouse$Reader" (433 : Nat) ({ cls := "FairHouse$Compare", name := "<init>", desc := "(ILFairHouse$Expr;LFairHouse$Expr;Z)V" } : Jvm.MethodName)) ∈ lw_all := lw_g (lw_at lw_m7 106 rfl) rfl
theorem q1681 : (Jvm.Cond.stringRef "FairHouse$Reader" (407 : Nat) "and") ∈ lw_tbl := lw_at lw_m7 123 rfl
theorem q1682 : (Jvm.Cond.stringRef "FairHouse$Reader" (409 : Nat) "or") ∈ lw_tbl := lw_at lw_m7 124 rfl
theorem q1683 : (Jvm.Cond.classLink "FairHouse$Reader" (411 : Nat) "FairHouse$Several") ∈ lw_all := lw_g (lw_at lw_m7 125 rfl) rfl
theorem q1685 : (Jvm.Cond.methodLink "FairHouse$Reader" (413 : Nat) ({ cls := "FairHouse$Several", name := "<init>", desc := "(Z)V" } : Jvm.MethodName)) ∈ lw_all := lw_g (lw_at lw_m7 127 rfl) rfl
theorem q1692 : (Jvm.Cond.fieldLinkNest "FairHouse$Reader" (419 : Nat) "FairHouse$Several" "all" "Z" "FairHouse") ∈ lw_tbl := lw_at lw_m7 134 rfl
theorem q1694 : (Jvm.Cond.fieldLinkNest "FairHouse$Reader" (416 : Nat) "FairHouse$Several" "parts" "Ljava/util/ArrayList;" "FairHouse") ∈ lw_tbl := lw_at lw_m7 136 rfl
theorem q1700 : (Jvm.Cond.methodLink "FairHouse$Reader" (329 : Nat) ({ cls := "FairHouse$Reader", name := "loop", desc := "(LFairHouse$Act;)V" } : Jvm.MethodName)) ∈ lw_all := lw_g (lw_at lw_m7 142 rfl) rfl
theorem q1701 : (Jvm.Cond.privateMethod ({ cls := "FairHouse$Reader", name := "loop", desc := "(LFairHouse$Act;)V" } : Jvm.MethodName)) ∈ lw_tbl := lw_at lw_m7 143 rfl
theorem q1702 : (Jvm.Cond.instanceMethod ({ cls := "FairHouse$Reader", name := "loop", desc := "(LFairHouse$Act;)V" } : Jvm.MethodName)) ∈ lw_all := lw_g (lw_at lw_m7 144 rfl) rfl
theorem q1703 : (Jvm.Cond.code ({ cls := "FairHouse$Reader", name := "loop", desc := "(LFairHouse$Act;)V" } : Jvm.MethodName) prog_22_method_29_code (4 : Nat) (Option.none : Option Jvm.ClassFile.FieldType)) ∈ lw_all := lw_g (lw_at lw_m7 145 rfl) rfl
theorem q1704 : (Jvm.Cond.methodLink "FairHouse$Reader" (342 : Nat) ({ cls := "FairHouse$Reader", name := "end", desc := "()I" } : Jvm.MethodName)) ∈ lw_all := lw_g (lw_at lw_m7 146 rfl) rfl
theorem q1705 : (Jvm.Cond.privateMethod ({ cls := "FairHouse$Reader", name := "end", desc := "()I" } : Jvm.MethodName)) ∈ lw_tbl := lw_at lw_m7 147 rfl
theorem q1706 : (Jvm.Cond.instanceMethod ({ cls := "FairHouse$Reader", name := "end", desc := "()I" } : Jvm.MethodName)) ∈ lw_all := lw_g (lw_at lw_m7 148 rfl) rfl
theorem q1707 : (Jvm.Cond.code ({ cls := "FairHouse$Reader", name := "end", desc := "()I" } : Jvm.MethodName) prog_22_method_26_code (1 : Nat) (Option.some Jvm.ClassFile.FieldType.int)) ∈ lw_all := lw_g (lw_at lw_m7 149 rfl) rfl
theorem q1708 : (Jvm.Cond.methodLink "FairHouse$Reader" (333 : Nat) ({ cls := "FairHouse$Reader", name := "whether", desc := "(LFairHouse$Act;)V" } : Jvm.MethodName)) ∈ lw_all := lw_g (lw_at lw_m7 150 rfl) rfl
theorem q1709 : (Jvm.Cond.privateMethod ({ cls := "FairHouse$Reader", name := "whether", desc := "(LFairHouse$Act;)V" } : Jvm.MethodName)) ∈ lw_tbl := lw_at lw_m7 151 rfl
theorem q1710 : (Jvm.Cond.instanceMethod ({ cls := "FairHouse$Reader", name := "whether", desc := "(LFairHouse$Act;)V" } : Jvm.MethodName)) ∈ lw_all := lw_g (lw_at lw_m7 152 rfl) rfl
theorem q1711 : (Jvm.Cond.code ({ cls := "FairHouse$Reader", name := "whether", desc := "(LFairHouse$Act;)V" } : Jvm.MethodName) prog_22_method_30_code (3 : Nat) (Option.none : Option Jvm.ClassFile.FieldType)) ∈ lw_all := lw_g (lw_at lw_m7 153 rfl) rfl
theorem q1712 : (Jvm.Cond.stringRef "FairHouse$Reader" (349 : Nat) "else") ∈ lw_tbl := lw_at lw_m7 154 rfl
theorem q1713 : (Jvm.Cond.methodLink "FairHouse$Reader" (336 : Nat) ({ cls := "FairHouse$Reader", name := "guard", desc := "(LFairHouse$Act;)V" } : Jvm.MethodName)) ∈ lw_all := lw_g (lw_at lw_m7 155 rfl) rfl
theorem q1714 : (Jvm.Cond.privateMethod ({ cls := "FairHouse$Reader", name := "guard", desc := "(LFairHouse$Act;)V" } : Jvm.MethodName)) ∈ lw_tbl := lw_at lw_m7 156 rfl
theorem q1715 : (Jvm.Cond.instanceMethod ({ cls := "FairHouse$Reader", name := "guard", desc := "(LFairHouse$Act;)V" } : Jvm.MethodName)) ∈ lw_all := lw_g (lw_at lw_m7 157 rfl) rfl
theorem q1716 : (Jvm.Cond.code ({ cls := "FairHouse$Reader", name := "guard", desc := "(LFairHouse$Act;)V" } : Jvm.MethodName) prog_22_method_31_code (3 : Nat) (Option.none : Option Jvm.ClassFile.FieldType)) ∈ lw_all := lw_g (lw_at lw_m7 158 rfl) rfl
theorem q1717 : (Jvm.Cond.stringRef "FairHouse$Reader" (351 : Nat) "on") ∈ lw_tbl := lw_at lw_m7 159 rfl
theorem q3415 : (Jvm.Cond.castable "FairHouse$Reader" "java/lang/Object") ∈ lw_tbl := lw_at lw_m14 177 rfl
theorem q144 : (Jvm.Cond.initialized "FairHouse$Wrong") ∈ lw_all := lw_g (lw_at lw_m1 26 rfl) rfl
theorem q298 : (Jvm.Cond.selects "FairHouse$Wrong" ({ cls := "java/lang/Throwable", name := "fillInStackTrace", desc := "()Ljava/lang/Throwable;" } : Jvm.MethodName) ({ cls := "java/lang/Throwable", name := "fillInStackTrace", desc := "()Ljava/lang/Throwable;" } : Jvm.MethodName)) ∈ lw_all := lw_g (lw_at lw_m1 180 rfl) rfl
theorem q822 : (Jvm.Cond.instantiable "FairHouse$Wrong" (8 : Nat)) ∈ lw_all := lw_g (lw_at lw_m3 224 rfl) rfl
theorem q823 : (Jvm.Cond.castable "FairHouse$Wrong" "FairHouse$Wrong") ∈ lw_tbl := lw_at lw_m3 225 rfl
theorem q824 : (Jvm.Cond.selects "FairHouse$Wrong" ({ cls := "java/lang/Throwable", name := "fillInStackTrace", desc := "(I)Ljava/lang/Throwable;" } : Jvm.MethodName) ({ cls := "java/lang/Throwable", name := "fillInStackTrace", desc := "(I)Ljava/lang/Throwable;" } : Jvm.MethodName)) ∈ lw_all := lw_g (lw_at lw_m3 226 rfl) rfl
theorem q825 : (Jvm.Cond.lays "FairHouse$Wrong" "java/lang/Throwable" "cause" "Ljava/lang/Throwable;") ∈ lw_all := lw_g (lw_at lw_m3 227 rfl) rfl
theorem q826 : (Jvm.Cond.lays "FairHouse$Wrong" "java/lang/Throwable" "stackTrace" "[Ljava/lang/StackTraceElement;") ∈ lw_all := lw_g (lw_at lw_m3 228 rfl) rfl
theorem q827 : (Jvm.Cond.lays "FairHouse$Wrong" "java/lang/Throwable" "suppressedExceptions" "Ljava/util/List;") ∈ lw_all := lw_g (lw_at lw_m3 229 rfl) rfl
theorem q828 : (Jvm.Cond.lays "FairHouse$Wrong" "java/lang/Throwable" "detailMessage" "Ljava/lang/String;") ∈ lw_all := lw_g (lw_at lw_m3 230 rfl) rfl
theorem q829 : (Jvm.Cond.lays "FairHouse$Wrong" "java/lang/Throwable" "backtrace" "Ljava/lang/Object;") ∈ lw_all := lw_g (lw_at lw_m3 231 rfl) rfl
theorem q831 : (Jvm.Cond.instanceMethod ({ cls := "FairHouse$Wrong", name := "<init>", desc := "(II)V" } : Jvm.MethodName)) ∈ lw_all := lw_g (lw_at lw_m3 233 rfl) rfl
theorem q832 : (Jvm.Cond.code ({ cls := "FairHouse$Wrong", name := "<init>", desc := "(II)V" } : Jvm.MethodName) prog_40_method_1_code (3 : Nat) (Option.none : Option Jvm.ClassFile.FieldType)) ∈ lw_all := lw_g (lw_at lw_m3 234 rfl) rfl
theorem q833 : (Jvm.Cond.methodLink "FairHouse$Wrong" (1 : Nat) ({ cls := "java/lang/Exception", name := "<init>", desc := "()V" } : Jvm.MethodName)) ∈ lw_all := lw_g (lw_at lw_m3 235 rfl) rfl
theorem q834 : (Jvm.Cond.fieldLink "FairHouse$Wrong" (7 : Nat) "FairHouse$Wrong" "kind" "I") ∈ lw_all := lw_g (lw_at lw_m3 236 rfl) rfl
theorem q836 : (Jvm.Cond.fieldLink "FairHouse$Wrong" (13 : Nat) "FairHouse$Wrong" "place" "I") ∈ lw_all := lw_g (lw_at lw_m3 238 rfl) rfl
theorem q838 : (Jvm.Cond.laysFinal "FairHouse$Wrong" "FairHouse$Wrong" "kind" "I") ∈ lw_all := lw_g (lw_at lw_m4 0 rfl) rfl
theorem q839 : (Jvm.Cond.soleField "FairHouse$Wrong" "kind") ∈ lw_all := lw_g (lw_at lw_m4 1 rfl) rfl
theorem q840 : (Jvm.Cond.laysFinal "FairHouse$Wrong" "FairHouse$Wrong" "place" "I") ∈ lw_all := lw_g (lw_at lw_m4 2 rfl) rfl
theorem q841 : (Jvm.Cond.soleField "FairHouse$Wrong" "place") ∈ lw_all := lw_g (lw_at lw_m4 3 rfl) rfl
theorem q842 : (Jvm.Cond.lays "FairHouse$Wrong" "java/lang/Throwable" "depth" "I") ∈ lw_all := lw_g (lw_at lw_m4 4 rfl) rfl
theorem q843 : (Jvm.Cond.superclass "FairHouse$Wrong" "java/lang/Exception") ∈ lw_all := lw_g (lw_at lw_m4 5 rfl) rfl
theorem q972 : (Jvm.Cond.selects "FairHouse$Wrong" ({ cls := "java/lang/Object", name := "getClass", desc := "()Ljava/lang/Class;" } : Jvm.MethodName) ({ cls := "java/lang/Object", name := "getClass", desc := "()Ljava/lang/Class;" } : Jvm.MethodName)) ∈ lw_all := lw_g (lw_at lw_m4 134 rfl) rfl
theorem q3419 : (Jvm.Cond.castable "FairHouse$Wrong" "java/lang/Object") ∈ lw_tbl := lw_at lw_m14 181 rfl
theorem q147 : (Jvm.Cond.initialized "FairHouse$Name") ∈ lw_all := lw_g (lw_at lw_m1 29 rfl) rfl
theorem q899 : (Jvm.Cond.instanceMethod ({ cls := "FairHouse$Name", name := "word", desc := "()J" } : Jvm.MethodName)) ∈ lw_all := lw_g (lw_at lw_m4 61 rfl) rfl
theorem q900 : (Jvm.Cond.selects "FairHouse$Name" ({ cls := "FairHouse$Name", name := "word", desc := "()J" } : Jvm.MethodName) ({ cls := "FairHouse$Name", name := "word", desc := "()J" } : Jvm.MethodName)) ∈ lw_all := lw_g (lw_at lw_m4 62 rfl) rfl
theorem q901 : (Jvm.Cond.code ({ cls := "FairHouse$Name", name := "word", desc := "()J" } : Jvm.MethodName) prog_19_method_5_code (1 : Nat) (Option.some Jvm.ClassFile.FieldType.long)) ∈ lw_all := lw_g (lw_at lw_m4 63 rfl) rfl
theorem q902 : (Jvm.Cond.instantiable "FairHouse$Name" (3 : Nat)) ∈ lw_all := lw_g (lw_at lw_m4 64 rfl) rfl
theorem q904 : (Jvm.Cond.instanceMethod ({ cls := "FairHouse$Name", name := "<init>", desc := "(JII)V" } : Jvm.MethodName)) ∈ lw_all := lw_g (lw_at lw_m4 66 rfl) rfl
theorem q905 : (Jvm.Cond.code ({ cls := "FairHouse$Name", name := "<init>", desc := "(JII)V" } : Jvm.MethodName) prog_19_method_1_code (5 : Nat) (Option.none : Option Jvm.ClassFile.FieldType)) ∈ lw_all := lw_g (lw_at lw_m4 67 rfl) rfl
theorem q906 : (Jvm.Cond.methodLink "FairHouse$Name" (1 : Nat) ({ cls := "java/lang/Record", name := "<init>", desc := "()V" } : Jvm.MethodName)) ∈ lw_all := lw_g (lw_at lw_m4 68 rfl) rfl
theorem q910 : (Jvm.Cond.fieldLink "FairHouse$Name" (7 : Nat) "FairHouse$Name" "word" "J") ∈ lw_all := lw_g (lw_at lw_m4 72 rfl) rfl
theorem q911 : (Jvm.Cond.fieldLink "FairHouse$Name" (13 : Nat) "FairHouse$Name" "sort" "I") ∈ lw_all := lw_g (lw_at lw_m4 73 rfl) rfl
theorem q912 : (Jvm.Cond.fieldLink "FairHouse$Name" (17 : Nat) "FairHouse$Name" "number" "I") ∈ lw_all := lw_g (lw_at lw_m4 74 rfl) rfl
theorem q913 : (Jvm.Cond.laysFinal "FairHouse$Name" "FairHouse$Name" "word" "J") ∈ lw_all := lw_g (lw_at lw_m4 75 rfl) rfl
theorem q914 : (Jvm.Cond.soleField "FairHouse$Name" "word") ∈ lw_all := lw_g (lw_at lw_m4 76 rfl) rfl
theorem q915 : (Jvm.Cond.laysFinal "FairHouse$Name" "FairHouse$Name" "sort" "I") ∈ lw_all := lw_g (lw_at lw_m4 77 rfl) rfl
theorem q916 : (Jvm.Cond.soleField "FairHouse$Name" "sort") ∈ lw_all := lw_g (lw_at lw_m4 78 rfl) rfl
theorem q917 : (Jvm.Cond.laysFinal "FairHouse$Name" "FairHouse$Name" "number" "I") ∈ lw_all := lw_g (lw_at lw_m4 79 rfl) rfl
theorem q918 : (Jvm.Cond.soleField "FairHouse$Name" "number") ∈ lw_all := lw_g (lw_at lw_m4 80 rfl) rfl
theorem q919 : (Jvm.Cond.superclass "FairHouse$Name" "java/lang/Record") ∈ lw_all := lw_g (lw_at lw_m4 81 rfl) rfl
theorem q955 : (Jvm.Cond.selects "FairHouse$Name" ({ cls := "java/lang/Object", name := "getClass", desc := "()Ljava/lang/Class;" } : Jvm.MethodName) ({ cls := "java/lang/Object", name := "getClass", desc := "()Ljava/lang/Class;" } : Jvm.MethodName)) ∈ lw_all := lw_g (lw_at lw_m4 117 rfl) rfl
theorem q1383 : (Jvm.Cond.instanceMethod ({ cls := "FairHouse$Name", name := "sort", desc := "()I" } : Jvm.MethodName)) ∈ lw_all := lw_g (lw_at lw_m6 65 rfl) rfl
theorem q1384 : (Jvm.Cond.selects "FairHouse$Name" ({ cls := "FairHouse$Name", name := "sort", desc := "()I" } : Jvm.MethodName) ({ cls := "FairHouse$Name", name := "sort", desc := "()I" } : Jvm.MethodName)) ∈ lw_all := lw_g (lw_at lw_m6 66 rfl) rfl
theorem q1385 : (Jvm.Cond.code ({ cls := "FairHouse$Name", name := "sort", desc := "()I" } : Jvm.MethodName) prog_19_method_6_code (1 : Nat) (Option.some Jvm.ClassFile.FieldType.int)) ∈ lw_all := lw_g (lw_at lw_m6 67 rfl) rfl
theorem q1387 : (Jvm.Cond.instanceMethod ({ cls := "FairHouse$Name", name := "number", desc := "()I" } : Jvm.MethodName)) ∈ lw_all := lw_g (lw_at lw_m6 69 rfl) rfl
theorem q1388 : (Jvm.Cond.selects "FairHouse$Name" ({ cls := "FairHouse$Name", name := "number", desc := "()I" } : Jvm.MethodName) ({ cls := "FairHouse$Name", name := "number", desc := "()I" } : Jvm.MethodName)) ∈ lw_all := lw_g (lw_at lw_m6 70 rfl) rfl
theorem q1389 : (Jvm.Cond.code ({ cls := "FairHouse$Name", name := "number", desc := "()I" } : Jvm.MethodName) prog_19_method_7_code (1 : Nat) (Option.some Jvm.ClassFile.FieldType.int)) ∈ lw_all := lw_g (lw_at lw_m6 71 rfl) rfl
theorem q3420 : (Jvm.Cond.castable "FairHouse$Name" "java/lang/Object") ∈ lw_tbl := lw_at lw_m14 182 rfl
theorem q148 : (Jvm.Cond.initialized "FairHouse$Ride") ∈ lw_all := lw_g (lw_at lw_m1 30 rfl) rfl
theorem q1009 : (Jvm.Cond.instanceMethod ({ cls := "FairHouse$Ride", name := "<init>", desc := "(I)V" } : Jvm.MethodName)) ∈ lw_all := lw_g (lw_at lw_m4 171 rfl) rfl
theorem q1010 : (Jvm.Cond.code ({ cls := "FairHouse$Ride", name := "<init>", desc := "(I)V" } : Jvm.MethodName) prog_25_method_1_code (2 : Nat) (Option.none : Option Jvm.ClassFile.FieldType)) ∈ lw_all := lw_g (lw_at lw_m4 172 rfl) rfl
theorem q1011 : (Jvm.Cond.methodLink "FairHouse$Ride" (1 : Nat) ({ cls := "java/lang/Object", name := "<init>", desc := "()V" } : Jvm.MethodName)) ∈ lw_all := lw_g (lw_at lw_m4 173 rfl) rfl
theorem q1012 : (Jvm.Cond.classLink "FairHouse$Ride" (7 : Nat) "FairHouse$Script") ∈ lw_all := lw_g (lw_at lw_m4 174 rfl) rfl
theorem q1014 : (Jvm.Cond.methodLinkNest "FairHouse$Ride" (9 : Nat) ({ cls := "FairHouse$Script", name := "<init>", desc := "()V" } : Jvm.MethodName) "FairHouse") ∈ lw_tbl := lw_at lw_m4 176 rfl
theorem q1134 : (Jvm.Cond.fieldLink "FairHouse$Ride" (16 : Nat) "FairHouse$Ride" "kind" "I") ∈ lw_all := lw_g (lw_at lw_m5 56 rfl) rfl
theorem q1136 : (Jvm.Cond.fieldLink "FairHouse$Ride" (10 : Nat) "FairHouse$Ride" "script" "LFairHouse$Script;") ∈ lw_all := lw_g (lw_at lw_m5 58 rfl) rfl
theorem q1147 : (Jvm.Cond.soleField "FairHouse$Ride" "kind") ∈ lw_all := lw_g (lw_at lw_m5 69 rfl) rfl
theorem q1149 : (Jvm.Cond.soleField "FairHouse$Ride" "script") ∈ lw_all := lw_g (lw_at lw_m5 71 rfl) rfl
theorem q1151 : (Jvm.Cond.soleField "FairHouse$Ride" "wear") ∈ lw_all := lw_g (lw_at lw_m5 73 rfl) rfl
theorem q149 : (Jvm.Cond.initialized "FairHouse$Wheel") ∈ lw_all := lw_g (lw_at lw_m1 31 rfl) rfl
theorem q971 : (Jvm.Cond.selects "FairHouse$Wheel" ({ cls := "java/lang/Object", name := "getClass", desc := "()Ljava/lang/Class;" } : Jvm.MethodName) ({ cls := "java/lang/Object", name := "getClass", desc := "()Ljava/lang/Class;" } : Jvm.MethodName)) ∈ lw_all := lw_g (lw_at lw_m4 133 rfl) rfl
theorem q1004 : (Jvm.Cond.instantiable "FairHouse$Wheel" (5 : Nat)) ∈ lw_all := lw_g (lw_at lw_m4 166 rfl) rfl
theorem q1006 : (Jvm.Cond.instanceMethod ({ cls := "FairHouse$Wheel", name := "<init>", desc := "([I)V" } : Jvm.MethodName)) ∈ lw_all := lw_g (lw_at lw_m4 168 rfl) rfl
theorem q1007 : (Jvm.Cond.code ({ cls := "FairHouse$Wheel", name := "<init>", desc := "([I)V" } : Jvm.MethodName) prog_39_method_1_code (2 : Nat) (Option.none : Option Jvm.ClassFile.FieldType)) ∈ lw_all := lw_g (lw_at lw_m4 169 rfl) rfl
theorem q1008 : (Jvm.Cond.methodLink "FairHouse$Wheel" (1 : Nat) ({ cls := "FairHouse$Ride", name := "<init>", desc := "(I)V" } : Jvm.MethodName)) ∈ lw_all := lw_g (lw_at lw_m4 170 rfl) rfl
theorem q1070 : (Jvm.Cond.classLink "FairHouse$Wheel" (7 : Nat) "FairHouse$Spin") ∈ lw_all := lw_g (lw_at lw_m4 232 rfl) rfl
theorem q1072 : (Jvm.Cond.methodLink "FairHouse$Wheel" (9 : Nat) ({ cls := "FairHouse$Spin", name := "<init>", desc := "(II)V" } : Jvm.MethodName)) ∈ lw_all := lw_g (lw_at lw_m4 234 rfl) rfl
theorem q1097 : (Jvm.Cond.classLink "FairHouse$Wheel" (18 : Nat) "FairHouse$Bench") ∈ lw_all := lw_g (lw_at lw_m5 19 rfl) rfl
theorem q1099 : (Jvm.Cond.methodLink "FairHouse$Wheel" (20 : Nat) ({ cls := "FairHouse$Bench", name := "<init>", desc := "(I)V" } : Jvm.MethodName)) ∈ lw_all := lw_g (lw_at lw_m5 21 rfl) rfl
theorem q1132 : (Jvm.Cond.fieldLink "FairHouse$Wheel" (12 : Nat) "FairHouse$Wheel" "spin" "LFairHouse$Spin;") ∈ lw_all := lw_g (lw_at lw_m5 54 rfl) rfl
theorem q1133 : (Jvm.Cond.fieldLink "FairHouse$Wheel" (21 : Nat) "FairHouse$Wheel" "bench" "LFairHouse$Bench;") ∈ lw_all := lw_g (lw_at lw_m5 55 rfl) rfl
theorem q1142 : (Jvm.Cond.laysFinal "FairHouse$Wheel" "FairHouse$Wheel" "spin" "LFairHouse$Spin;") ∈ lw_all := lw_g (lw_at lw_m5 64 rfl) rfl
theorem q1143 : (Jvm.Cond.soleField "FairHouse$Wheel" "spin") ∈ lw_all := lw_g (lw_at lw_m5 65 rfl) rfl
theorem q1144 : (Jvm.Cond.laysFinal "FairHouse$Wheel" "FairHouse$Wheel" "bench" "LFairHouse$Bench;") ∈ lw_all := lw_g (lw_at lw_m5 66 rfl) rfl
theorem q1145 : (Jvm.Cond.soleField "FairHouse$Wheel" "bench") ∈ lw_all := lw_g (lw_at lw_m5 67 rfl) rfl
theorem q1146 : (Jvm.Cond.laysFinal "FairHouse$Wheel" "FairHouse$Ride" "kind" "I") ∈ lw_all := lw_g (lw_at lw_m5 68 rfl) rfl
theorem q1148 : (Jvm.Cond.laysFinal "FairHouse$Wheel" "FairHouse$Ride" "script" "LFairHouse$Script;") ∈ lw_all := lw_g (lw_at lw_m5 70 rfl) rfl
theorem q1150 : (Jvm.Cond.lays "FairHouse$Wheel" "FairHouse$Ride" "wear" "I") ∈ lw_all := lw_g (lw_at lw_m5 72 rfl) rfl
theorem q1152 : (Jvm.Cond.superclass "FairHouse$Wheel" "FairHouse$Ride") ∈ lw_all := lw_g (lw_at lw_m5 74 rfl) rfl
theorem q1421 : (Jvm.Cond.castable "FairHouse$Wheel" "FairHouse$Turns") ∈ lw_tbl := lw_at lw_m6 103 rfl
theorem q1422 : (Jvm.Cond.selects "FairHouse$Wheel" ({ cls := "FairHouse$Turns", name := "spin", desc := "()LFairHouse$Spin;" } : Jvm.MethodName) ({ cls := "FairHouse$Wheel", name := "spin", desc := "()LFairHouse$Spin;" } : Jvm.MethodName)) ∈ lw_all := lw_g (lw_at lw_m6 104 rfl) rfl
theorem q1423 : (Jvm.Cond.unhidden "FairHouse$Wheel" "spin" "()LFairHouse$Spin;") ∈ lw_tbl := lw_at lw_m6 105 rfl
theorem q1424 : (Jvm.Cond.instanceMethod ({ cls := "FairHouse$Wheel", name := "spin", desc := "()LFairHouse$Spin;" } : Jvm.MethodName)) ∈ lw_all := lw_g (lw_at lw_m6 106 rfl) rfl
theorem q1425 : (Jvm.Cond.publicMethod ({ cls := "FairHouse$Wheel", name := "spin", desc := "()LFairHouse$Spin;" } : Jvm.MethodName)) ∈ lw_tbl := lw_at lw_m6 107 rfl
theorem q1426 : (Jvm.Cond.code ({ cls := "FairHouse$Wheel", name := "spin", desc := "()LFairHouse$Spin;" } : Jvm.MethodName) prog_39_method_2_code (1 : Nat) (Option.some (Jvm.ClassFile.FieldType.object "FairHouse$Spin"))) ∈ lw_all := lw_g (lw_at lw_m6 108 rfl) rfl
theorem q1860 : (Jvm.Cond.castable "FairHouse$Wheel" "FairHouse$Seats") ∈ lw_tbl := lw_at lw_m8 62 rfl
theorem q1861 : (Jvm.Cond.selects "FairHouse$Wheel" ({ cls := "FairHouse$Seats", name := "bench", desc := "()LFairHouse$Bench;" } : Jvm.MethodName) ({ cls := "FairHouse$Wheel", name := "bench", desc := "()LFairHouse$Bench;" } : Jvm.MethodName)) ∈ lw_all := lw_g (lw_at lw_m8 63 rfl) rfl
theorem q1862 : (Jvm.Cond.unhidden "FairHouse$Wheel" "bench" "()LFairHouse$Bench;") ∈ lw_tbl := lw_at lw_m8 64 rfl
theorem q1863 : (Jvm.Cond.instanceMethod ({ cls := "FairHouse$Wheel", name := "bench", desc := "()LFairHouse$Bench;" } : Jvm.MethodName)) ∈ lw_all := lw_g (lw_at lw_m8 65 rfl) rfl
theorem q1864 : (Jvm.Cond.publicMethod ({ cls := "FairHouse$Wheel", name := "bench", desc := "()LFairHouse$Bench;" } : Jvm.MethodName)) ∈ lw_tbl := lw_at lw_m8 66 rfl
theorem q1865 : (Jvm.Cond.code ({ cls := "FairHouse$Wheel", name := "bench", desc := "()LFairHouse$Bench;" } : Jvm.MethodName) prog_39_method_3_code (1 : Nat) (Option.some (Jvm.ClassFile.FieldType.object "FairHouse$Bench"))) ∈ lw_all := lw_g (lw_at lw_m8 67 rfl) rfl
theorem q2135 : (Jvm.Cond.unhidden "FairHouse$Wheel" "isStill" "()Z") ∈ lw_tbl := lw_at lw_m9 97 rfl
theorem q2166 : (Jvm.Cond.castable "FairHouse$Wheel" "FairHouse$Machine") ∈ lw_tbl := lw_at lw_m9 128 rfl
theorem q2167 : (Jvm.Cond.unhidden "FairHouse$Wheel" "isCalm" "()Z") ∈ lw_tbl := lw_at lw_m9 129 rfl
theorem q2187 : (Jvm.Cond.unhidden "FairHouse$Wheel" "board" "(I)I") ∈ lw_tbl := lw_at lw_m9 149 rfl
theorem q2279 : (Jvm.Cond.unhidden "FairHouse$Wheel" "turn" "()V") ∈ lw_tbl := lw_at lw_m10 1 rfl
theorem q2338 : (Jvm.Cond.unhidden "FairHouse$Wheel" "ease" "()V") ∈ lw_tbl := lw_at lw_m10 60 rfl
theorem q2425 : (Jvm.Cond.unhidden "FairHouse$Wheel" "pull" "()I") ∈ lw_tbl := lw_at lw_m10 147 rfl
theorem q2465 : (Jvm.Cond.unhidden "FairHouse$Wheel" "draw" "()I") ∈ lw_tbl := lw_at lw_m10 187 rfl
theorem q2508 : (Jvm.Cond.unhidden "FairHouse$Wheel" "limit" "()I") ∈ lw_tbl := lw_at lw_m10 230 rfl
theorem q2562 : (Jvm.Cond.unhidden "FairHouse$Wheel" "tear" "()I") ∈ lw_tbl := lw_at lw_m11 44 rfl
theorem q2630 : (Jvm.Cond.unhidden "FairHouse$Wheel" "hum" "()I") ∈ lw_tbl := lw_at lw_m11 112 rfl
theorem q2655 : (Jvm.Cond.unhidden "FairHouse$Wheel" "noise" "()I") ∈ lw_tbl := lw_at lw_m11 137 rfl
theorem q3401 : (Jvm.Cond.castable "FairHouse$Wheel" "FairHouse$Ride") ∈ lw_tbl := lw_at lw_m14 163 rfl
theorem q3421 : (Jvm.Cond.castable "FairHouse$Wheel" "java/lang/Object") ∈ lw_tbl := lw_at lw_m14 183 rfl
theorem q150 : (Jvm.Cond.initialized "FairHouse$Script") ∈ lw_all := lw_g (lw_at lw_m1 32 rfl) rfl
theorem q961 : (Jvm.Cond.selects "FairHouse$Script" ({ cls := "java/lang/Object", name := "getClass", desc := "()Ljava/lang/Class;" } : Jvm.MethodName) ({ cls := "java/lang/Object", name := "getClass", desc := "()Ljava/lang/Class;" } : Jvm.MethodName)) ∈ lw_all := lw_g (lw_at lw_m4 123 rfl) rfl
theorem q1013 : (Jvm.Cond.instantiable "FairHouse$Script" (13 : Nat)) ∈ lw_all := lw_g (lw_at lw_m4 175 rfl) rfl
theorem q1015 : (Jvm.Cond.instanceMethod ({ cls := "FairHouse$Script", name := "<init>", desc := "()V" } : Jvm.MethodName)) ∈ lw_all := lw_g (lw_at lw_m4 177 rfl) rfl
theorem q1016 : (Jvm.Cond.code ({ cls := "FairHouse$Script", name := "<init>", desc := "()V" } : Jvm.MethodName) prog_26_method_1_code (1 : Nat) (Option.none : Option Jvm.ClassFile.FieldType)) ∈ lw_all := lw_g (lw_at lw_m4 178 rfl) rfl
theorem q1017 : (Jvm.Cond.methodLink "FairHouse$Script" (3 : Nat) ({ cls := "java/lang/Object", name := "<init>", desc := "()V" } : Jvm.MethodName)) ∈ lw_all := lw_g (lw_at lw_m4 179 rfl) rfl
theorem q1018 : (Jvm.Cond.classLink "FairHouse$Script" (9 : Nat) "java/util/ArrayList") ∈ lw_all := lw_g (lw_at lw_m4 180 rfl) rfl
theorem q1019 : (Jvm.Cond.methodLink "FairHouse$Script" (11 : Nat) ({ cls := "java/util/ArrayList", name := "<init>", desc := "()V" } : Jvm.MethodName)) ∈ lw_all := lw_g (lw_at lw_m4 181 rfl) rfl
theorem q1020 : (Jvm.Cond.fieldLink "FairHouse$Script" (12 : Nat) "FairHouse$Script" "acts" "Ljava/util/ArrayList;") ∈ lw_all := lw_g (lw_at lw_m4 182 rfl) rfl
theorem q1022 : (Jvm.Cond.fieldLink "FairHouse$Script" (18 : Nat) "FairHouse$Script" "registers" "[I") ∈ lw_all := lw_g (lw_at lw_m4 184 rfl) rfl
theorem q1025 : (Jvm.Cond.fieldLink "FairHouse$Script" (22 : Nat) "FairHouse$Script" "held" "[I") ∈ lw_all := lw_g (lw_at lw_m4 187 rfl) rfl
theorem q1027 : (Jvm.Cond.fieldLink "FairHouse$Script" (25 : Nat) "FairHouse$Script" "turns" "[I") ∈ lw_all := lw_g (lw_at lw_m4 189 rfl) rfl
theorem q1028 : (Jvm.Cond.fieldLink "FairHouse$Script" (28 : Nat) "FairHouse$Script" "ends" "[I") ∈ lw_all := lw_g (lw_at lw_m4 190 rfl) rfl
theorem q1029 : (Jvm.Cond.fieldLink "FairHouse$Script" (31 : Nat) "FairHouse$Script" "guards" "[Z") ∈ lw_all := lw_g (lw_at lw_m4 191 rfl) rfl
theorem q1030 : (Jvm.Cond.fieldLink "FairHouse$Script" (53 : Nat) "FairHouse$Script" "open" "I") ∈ lw_all := lw_g (lw_at lw_m4 192 rfl) rfl
theorem q1031 : (Jvm.Cond.fieldLink "FairHouse$Script" (43 : Nat) "FairHouse$Script" "pc" "I") ∈ lw_all := lw_g (lw_at lw_m4 193 rfl) rfl
theorem q1035 : (Jvm.Cond.fieldLink "FairHouse$Script" (60 : Nat) "FairHouse$Script" "why" "I") ∈ lw_all := lw_g (lw_at lw_m4 197 rfl) rfl
theorem q1037 : (Jvm.Cond.fieldLink "FairHouse$Script" (63 : Nat) "FairHouse$Script" "state" "I") ∈ lw_all := lw_g (lw_at lw_m4 199 rfl) rfl
theorem q1039 : (Jvm.Cond.fieldLink "FairHouse$Script" (66 : Nat) "FairHouse$Script" "counted" "I") ∈ lw_all := lw_g (lw_at lw_m4 201 rfl) rfl
theorem q1041 : (Jvm.Cond.fieldLink "FairHouse$Script" (56 : Nat) "FairHouse$Script" "begun" "Z") ∈ lw_all := lw_g (lw_at lw_m4 203 rfl) rfl
theorem q1043 : (Jvm.Cond.laysFinal "FairHouse$Script" "FairHouse$Script" "acts" "Ljava/util/ArrayList;") ∈ lw_all := lw_g (lw_at lw_m4 205 rfl) rfl
theorem q1044 : (Jvm.Cond.soleField "FairHouse$Script" "acts") ∈ lw_all := lw_g (lw_at lw_m4 206 rfl) rfl
theorem q1045 : (Jvm.Cond.laysFinal "FairHouse$Script" "FairHouse$Script" "registers" "[I") ∈ lw_all := lw_g (lw_at lw_m4 207 rfl) rfl
theorem q1046 : (Jvm.Cond.soleField "FairHouse$Script" "registers") ∈ lw_all := lw_g (lw_at lw_m4 208 rfl) rfl
theorem q1047 : (Jvm.Cond.laysFinal "FairHouse$Script" "FairHouse$Script" "held" "[I") ∈ lw_all := lw_g (lw_at lw_m4 209 rfl) rfl
theorem q1048 : (Jvm.Cond.soleField "FairHouse$Script" "held") ∈ lw_all := lw_g (lw_at lw_m4 210 rfl) rfl
theorem q1049 : (Jvm.Cond.laysFinal "FairHouse$Script" "FairHouse$Script" "turns" "[I") ∈ lw_all := lw_g (lw_at lw_m4 211 rfl) rfl
theorem q1050 : (Jvm.Cond.soleField "FairHouse$Script" "turns") ∈ lw_all := lw_g (lw_at lw_m4 212 rfl) rfl
theorem q1051 : (Jvm.Cond.laysFinal "FairHouse$Script" "FairHouse$Script" "ends" "[I") ∈ lw_all := lw_g (lw_at lw_m4 213 rfl) rfl
theorem q1052 : (Jvm.Cond.soleField "FairHouse$Script" "ends") ∈ lw_all := lw_g (lw_at lw_m4 214 rfl) rfl
theorem q1053 : (Jvm.Cond.laysFinal "FairHouse$Script" "FairHouse$Script" "guards" "[Z") ∈ lw_all := lw_g (lw_at lw_m4 215 rfl) rfl
theorem q1054 : (Jvm.Cond.soleField "FairHouse$Script" "guards") ∈ lw_all := lw_g (lw_at lw_m4 216 rfl) rfl
theorem q1055 : (Jvm.Cond.lays "FairHouse$Script" "FairHouse$Script" "open" "I") ∈ lw_all := lw_g (lw_at lw_m4 217 rfl) rfl
theorem q1056 : (Jvm.Cond.soleField "FairHouse$Script" "open") ∈ lw_all := lw_g (lw_at lw_m4 218 rfl) rfl
theorem q1057 : (Jvm.Cond.lays "FairHouse$Script" "FairHouse$Script" "pc" "I") ∈ lw_all := lw_g (lw_at lw_m4 219 rfl) rfl
theorem q1058 : (Jvm.Cond.soleField "FairHouse$Script" "pc") ∈ lw_all := lw_g (lw_at lw_m4 220 rfl) rfl
theorem q1059 : (Jvm.Cond.lays "FairHouse$Script" "FairHouse$Script" "left" "I") ∈ lw_all := lw_g (lw_at lw_m4 221 rfl) rfl
theorem q1060 : (Jvm.Cond.soleField "FairHouse$Script" "left") ∈ lw_all := lw_g (lw_at lw_m4 222 rfl) rfl
theorem q1061 : (Jvm.Cond.lays "FairHouse$Script" "FairHouse$Script" "why" "I") ∈ lw_all := lw_g (lw_at lw_m4 223 rfl) rfl
theorem q1062 : (Jvm.Cond.soleField "FairHouse$Script" "why") ∈ lw_all := lw_g (lw_at lw_m4 224 rfl) rfl
theorem q1063 : (Jvm.Cond.lays "FairHouse$Script" "FairHouse$Script" "state" "I") ∈ lw_all := lw_g (lw_at lw_m4 225 rfl) rfl
theorem q1064 : (Jvm.Cond.soleField "FairHouse$Script" "state") ∈ lw_all := lw_g (lw_at lw_m4 226 rfl) rfl
theorem q1065 : (Jvm.Cond.lays "FairHouse$Script" "FairHouse$Script" "counted" "I") ∈ lw_all := lw_g (lw_at lw_m4 227 rfl) rfl
theorem q1066 : (Jvm.Cond.soleField "FairHouse$Script" "counted") ∈ lw_all := lw_g (lw_at lw_m4 228 rfl) rfl
theorem q1067 : (Jvm.Cond.lays "FairHouse$Script" "FairHouse$Script" "begun" "Z") ∈ lw_all := lw_g (lw_at lw_m4 229 rfl) rfl
theorem q1068 : (Jvm.Cond.soleField "FairHouse$Script" "begun") ∈ lw_all := lw_g (lw_at lw_m4 230 rfl) rfl
theorem q1069 : (Jvm.Cond.superclass "FairHouse$Script" "java/lang/Object") ∈ lw_all := lw_g (lw_at lw_m4 231 rfl) rfl
theorem q1480 : (Jvm.Cond.fieldLinkNest "FairHouse$Script" (73 : Nat) "FairHouse$Act" "op" "I" "FairHouse") ∈ lw_tbl := lw_at lw_m6 162 rfl
theorem q1484 : (Jvm.Cond.fieldLinkNest "FairHouse$Script" (79 : Nat) "FairHouse$Act" "at" "I" "FairHouse") ∈ lw_tbl := lw_at lw_m6 166 rfl
theorem q1492 : (Jvm.Cond.fieldLinkNest "FairHouse$Script" (76 : Nat) "FairHouse$Act" "to" "I" "FairHouse") ∈ lw_tbl := lw_at lw_m6 174 rfl
theorem q1509 : (Jvm.Cond.instanceMethod ({ cls := "FairHouse$Script", name := "add", desc := "(LFairHouse$Act;)I" } : Jvm.MethodName)) ∈ lw_all := lw_g (lw_at lw_m6 191 rfl) rfl
theorem q1510 : (Jvm.Cond.selects "FairHouse$Script" ({ cls := "FairHouse$Script", name := "add", desc := "(LFairHouse$Act;)I" } : Jvm.MethodName) ({ cls := "FairHouse$Script", name := "add", desc := "(LFairHouse$Act;)I" } : Jvm.MethodName)) ∈ lw_all := lw_g (lw_at lw_m6 192 rfl) rfl
theorem q1511 : (Jvm.Cond.code ({ cls := "FairHouse$Script", name := "add", desc := "(LFairHouse$Act;)I" } : Jvm.MethodName) prog_26_method_2_code (2 : Nat) (Option.some Jvm.ClassFile.FieldType.int)) ∈ lw_all := lw_g (lw_at lw_m6 193 rfl) rfl
theorem q1512 : (Jvm.Cond.methodLink "FairHouse$Script" (35 : Nat) ({ cls := "java/util/ArrayList", name := "add", desc := "(Ljava/lang/Object;)Z" } : Jvm.MethodName)) ∈ lw_all := lw_g (lw_at lw_m6 194 rfl) rfl
theorem q1513 : (Jvm.Cond.methodLink "FairHouse$Script" (39 : Nat) ({ cls := "java/util/ArrayList", name := "size", desc := "()I" } : Jvm.MethodName)) ∈ lw_all := lw_g (lw_at lw_m6 195 rfl) rfl
theorem q1726 : (Jvm.Cond.instanceMethod ({ cls := "FairHouse$Script", name := "clear", desc := "()V" } : Jvm.MethodName)) ∈ lw_all := lw_g (lw_at lw_m7 168 rfl) rfl
theorem q1727 : (Jvm.Cond.selects "FairHouse$Script" ({ cls := "FairHouse$Script", name := "clear", desc := "()V" } : Jvm.MethodName) ({ cls := "FairHouse$Script", name := "clear", desc := "()V" } : Jvm.MethodName)) ∈ lw_all := lw_g (lw_at lw_m7 169 rfl) rfl
theorem q1728 : (Jvm.Cond.code ({ cls := "FairHouse$Script", name := "clear", desc := "()V" } : Jvm.MethodName) prog_26_method_4_code (2 : Nat) (Option.none : Option Jvm.ClassFile.FieldType)) ∈ lw_all := lw_g (lw_at lw_m7 170 rfl) rfl
theorem q2001 : (Jvm.Cond.instanceMethod ({ cls := "FairHouse$Script", name := "now", desc := "()LFairHouse$Act;" } : Jvm.MethodName)) ∈ lw_all := lw_g (lw_at lw_m8 203 rfl) rfl
theorem q2002 : (Jvm.Cond.selects "FairHouse$Script" ({ cls := "FairHouse$Script", name := "now", desc := "()LFairHouse$Act;" } : Jvm.MethodName) ({ cls := "FairHouse$Script", name := "now", desc := "()LFairHouse$Act;" } : Jvm.MethodName)) ∈ lw_all := lw_g (lw_at lw_m8 204 rfl) rfl
theorem q2003 : (Jvm.Cond.code ({ cls := "FairHouse$Script", name := "now", desc := "()LFairHouse$Act;" } : Jvm.MethodName) prog_26_method_3_code (1 : Nat) (Option.some (Jvm.ClassFile.FieldType.object "FairHouse$Act"))) ∈ lw_all := lw_g (lw_at lw_m8 205 rfl) rfl
theorem q2004 : (Jvm.Cond.methodLink "FairHouse$Script" (47 : Nat) ({ cls := "java/util/ArrayList", name := "get", desc := "(I)Ljava/lang/Object;" } : Jvm.MethodName)) ∈ lw_all := lw_g (lw_at lw_m8 206 rfl) rfl
theorem q2005 : (Jvm.Cond.classLink "FairHouse$Script" (51 : Nat) "FairHouse$Act") ∈ lw_all := lw_g (lw_at lw_m8 207 rfl) rfl
theorem q2011 : (Jvm.Cond.instanceMethod ({ cls := "FairHouse$Script", name := "settles", desc := "()Z" } : Jvm.MethodName)) ∈ lw_all := lw_g (lw_at lw_m8 213 rfl) rfl
theorem q2012 : (Jvm.Cond.selects "FairHouse$Script" ({ cls := "FairHouse$Script", name := "settles", desc := "()Z" } : Jvm.MethodName) ({ cls := "FairHouse$Script", name := "settles", desc := "()Z" } : Jvm.MethodName)) ∈ lw_all := lw_g (lw_at lw_m8 214 rfl) rfl
theorem q2013 : (Jvm.Cond.code ({ cls := "FairHouse$Script", name := "settles", desc := "()Z" } : Jvm.MethodName) prog_26_method_8_code (2 : Nat) (Option.some Jvm.ClassFile.FieldType.boolean)) ∈ lw_all := lw_g (lw_at lw_m8 215 rfl) rfl
theorem q2014 : (Jvm.Cond.methodLink "FairHouse$Script" (69 : Nat) ({ cls := "FairHouse$Script", name := "now", desc := "()LFairHouse$Act;" } : Jvm.MethodName)) ∈ lw_all := lw_g (lw_at lw_m8 216 rfl) rfl
theorem q2221 : (Jvm.Cond.instanceMethod ({ cls := "FairHouse$Script", name := "enter", desc := "(ZII)V" } : Jvm.MethodName)) ∈ lw_all := lw_g (lw_at lw_m9 183 rfl) rfl
theorem q2222 : (Jvm.Cond.selects "FairHouse$Script" ({ cls := "FairHouse$Script", name := "enter", desc := "(ZII)V" } : Jvm.MethodName) ({ cls := "FairHouse$Script", name := "enter", desc := "(ZII)V" } : Jvm.MethodName)) ∈ lw_all := lw_g (lw_at lw_m9 184 rfl) rfl
theorem q2223 : (Jvm.Cond.code ({ cls := "FairHouse$Script", name := "enter", desc := "(ZII)V" } : Jvm.MethodName) prog_26_method_5_code (4 : Nat) (Option.none : Option Jvm.ClassFile.FieldType)) ∈ lw_all := lw_g (lw_at lw_m9 185 rfl) rfl
theorem q2225 : (Jvm.Cond.instanceMethod ({ cls := "FairHouse$Script", name := "leave", desc := "()V" } : Jvm.MethodName)) ∈ lw_all := lw_g (lw_at lw_m9 187 rfl) rfl
theorem q2226 : (Jvm.Cond.selects "FairHouse$Script" ({ cls := "FairHouse$Script", name := "leave", desc := "()V" } : Jvm.MethodName) ({ cls := "FairHouse$Script", name := "leave", desc := "()V" } : Jvm.MethodName)) ∈ lw_all := lw_g (lw_at lw_m9 188 rfl) rfl
theorem q2227 : (Jvm.Cond.code ({ cls := "FairHouse$Script", name := "leave", desc := "()V" } : Jvm.MethodName) prog_26_method_6_code (1 : Nat) (Option.none : Option Jvm.ClassFile.FieldType)) ∈ lw_all := lw_g (lw_at lw_m9 189 rfl) rfl
theorem q2229 : (Jvm.Cond.instanceMethod ({ cls := "FairHouse$Script", name := "again", desc := "()V" } : Jvm.MethodName)) ∈ lw_all := lw_g (lw_at lw_m9 191 rfl) rfl
theorem q2230 : (Jvm.Cond.selects "FairHouse$Script" ({ cls := "FairHouse$Script", name := "again", desc := "()V" } : Jvm.MethodName) ({ cls := "FairHouse$Script", name := "again", desc := "()V" } : Jvm.MethodName)) ∈ lw_all := lw_g (lw_at lw_m9 192 rfl) rfl
theorem q2231 : (Jvm.Cond.code ({ cls := "FairHouse$Script", name := "again", desc := "()V" } : Jvm.MethodName) prog_26_method_9_code (1 : Nat) (Option.none : Option Jvm.ClassFile.FieldType)) ∈ lw_all := lw_g (lw_at lw_m9 193 rfl) rfl
theorem q2237 : (Jvm.Cond.instanceMethod ({ cls := "FairHouse$Script", name := "falls", desc := "()Z" } : Jvm.MethodName)) ∈ lw_all := lw_g (lw_at lw_m9 199 rfl) rfl
theorem q2238 : (Jvm.Cond.selects "FairHouse$Script" ({ cls := "FairHouse$Script", name := "falls", desc := "()Z" } : Jvm.MethodName) ({ cls := "FairHouse$Script", name := "falls", desc := "()Z" } : Jvm.MethodName)) ∈ lw_all := lw_g (lw_at lw_m9 200 rfl) rfl
theorem q2239 : (Jvm.Cond.code ({ cls := "FairHouse$Script", name := "falls", desc := "()Z" } : Jvm.MethodName) prog_26_method_7_code (1 : Nat) (Option.some Jvm.ClassFile.FieldType.boolean)) ∈ lw_all := lw_g (lw_at lw_m9 201 rfl) rfl
theorem q2669 : (Jvm.Cond.instanceMethod ({ cls := "FairHouse$Script", name := "place", desc := "()I" } : Jvm.MethodName)) ∈ lw_all := lw_g (lw_at lw_m11 151 rfl) rfl
theorem q2670 : (Jvm.Cond.selects "FairHouse$Script" ({ cls := "FairHouse$Script", name := "place", desc := "()I" } : Jvm.MethodName) ({ cls := "FairHouse$Script", name := "place", desc := "()I" } : Jvm.MethodName)) ∈ lw_all := lw_g (lw_at lw_m11 152 rfl) rfl
theorem q2671 : (Jvm.Cond.code ({ cls := "FairHouse$Script", name := "place", desc := "()I" } : Jvm.MethodName) prog_26_method_10_code (1 : Nat) (Option.some Jvm.ClassFile.FieldType.int)) ∈ lw_all := lw_g (lw_at lw_m11 153 rfl) rfl
theorem q3422 : (Jvm.Cond.castable "FairHouse$Script" "java/lang/Object") ∈ lw_tbl := lw_at lw_m14 184 rfl
theorem q151 : (Jvm.Cond.initialized "FairHouse$Spin") ∈ lw_all := lw_g (lw_at lw_m1 33 rfl) rfl
theorem q964 : (Jvm.Cond.selects "FairHouse$Spin" ({ cls := "java/lang/Object", name := "getClass", desc := "()Ljava/lang/Class;" } : Jvm.MethodName) ({ cls := "java/lang/Object", name := "getClass", desc := "()Ljava/lang/Class;" } : Jvm.MethodName)) ∈ lw_all := lw_g (lw_at lw_m4 126 rfl) rfl
theorem q1071 : (Jvm.Cond.instantiable "FairHouse$Spin" (4 : Nat)) ∈ lw_all := lw_g (lw_at lw_m4 233 rfl) rfl
theorem q1073 : (Jvm.Cond.instanceMethod ({ cls := "FairHouse$Spin", name := "<init>", desc := "(II)V" } : Jvm.MethodName)) ∈ lw_all := lw_g (lw_at lw_m4 235 rfl) rfl
theorem q1074 : (Jvm.Cond.code ({ cls := "FairHouse$Spin", name := "<init>", desc := "(II)V" } : Jvm.MethodName) prog_31_method_1_code (3 : Nat) (Option.none : Option Jvm.ClassFile.FieldType)) ∈ lw_all := lw_g (lw_at lw_m4 236 rfl) rfl
theorem q1075 : (Jvm.Cond.methodLink "FairHouse$Spin" (1 : Nat) ({ cls := "java/lang/Object", name := "<init>", desc := "()V" } : Jvm.MethodName)) ∈ lw_all := lw_g (lw_at lw_m4 237 rfl) rfl
theorem q1076 : (Jvm.Cond.fieldLink "FairHouse$Spin" (7 : Nat) "FairHouse$Spin" "mass" "I") ∈ lw_all := lw_g (lw_at lw_m4 238 rfl) rfl
theorem q1078 : (Jvm.Cond.fieldLink "FairHouse$Spin" (13 : Nat) "FairHouse$Spin" "accel" "I") ∈ lw_all := lw_g (lw_at lw_m5 0 rfl) rfl
theorem q1081 : (Jvm.Cond.fieldLink "FairHouse$Spin" (16 : Nat) "FairHouse$Spin" "speed" "I") ∈ lw_all := lw_g (lw_at lw_m5 3 rfl) rfl
theorem q1086 : (Jvm.Cond.fieldLink "FairHouse$Spin" (19 : Nat) "FairHouse$Spin" "goal" "I") ∈ lw_all := lw_g (lw_at lw_m5 8 rfl) rfl
theorem q1088 : (Jvm.Cond.laysFinal "FairHouse$Spin" "FairHouse$Spin" "mass" "I") ∈ lw_all := lw_g (lw_at lw_m5 10 rfl) rfl
theorem q1089 : (Jvm.Cond.soleField "FairHouse$Spin" "mass") ∈ lw_all := lw_g (lw_at lw_m5 11 rfl) rfl
theorem q1090 : (Jvm.Cond.laysFinal "FairHouse$Spin" "FairHouse$Spin" "accel" "I") ∈ lw_all := lw_g (lw_at lw_m5 12 rfl) rfl
theorem q1091 : (Jvm.Cond.soleField "FairHouse$Spin" "accel") ∈ lw_all := lw_g (lw_at lw_m5 13 rfl) rfl
theorem q1092 : (Jvm.Cond.lays "FairHouse$Spin" "FairHouse$Spin" "speed" "I") ∈ lw_all := lw_g (lw_at lw_m5 14 rfl) rfl
theorem q1093 : (Jvm.Cond.soleField "FairHouse$Spin" "speed") ∈ lw_all := lw_g (lw_at lw_m5 15 rfl) rfl
theorem q1094 : (Jvm.Cond.lays "FairHouse$Spin" "FairHouse$Spin" "goal" "I") ∈ lw_all := lw_g (lw_at lw_m5 16 rfl) rfl
theorem q1095 : (Jvm.Cond.soleField "FairHouse$Spin" "goal") ∈ lw_all := lw_g (lw_at lw_m5 17 rfl) rfl
theorem q1096 : (Jvm.Cond.superclass "FairHouse$Spin" "java/lang/Object") ∈ lw_all := lw_g (lw_at lw_m5 18 rfl) rfl
theorem q2273 : (Jvm.Cond.instanceMethod ({ cls := "FairHouse$Spin", name := "near", desc := "(I)V" } : Jvm.MethodName)) ∈ lw_all := lw_g (lw_at lw_m9 235 rfl) rfl
theorem q2274 : (Jvm.Cond.selects "FairHouse$Spin" ({ cls := "FairHouse$Spin", name := "near", desc := "(I)V" } : Jvm.MethodName) ({ cls := "FairHouse$Spin", name := "near", desc := "(I)V" } : Jvm.MethodName)) ∈ lw_all := lw_g (lw_at lw_m9 236 rfl) rfl
theorem q2275 : (Jvm.Cond.code ({ cls := "FairHouse$Spin", name := "near", desc := "(I)V" } : Jvm.MethodName) prog_31_method_3_code (2 : Nat) (Option.none : Option Jvm.ClassFile.FieldType)) ∈ lw_all := lw_g (lw_at lw_m9 237 rfl) rfl
theorem q2281 : (Jvm.Cond.instanceMethod ({ cls := "FairHouse$Spin", name := "size", desc := "()I" } : Jvm.MethodName)) ∈ lw_all := lw_g (lw_at lw_m10 3 rfl) rfl
theorem q2282 : (Jvm.Cond.selects "FairHouse$Spin" ({ cls := "FairHouse$Spin", name := "size", desc := "()I" } : Jvm.MethodName) ({ cls := "FairHouse$Spin", name := "size", desc := "()I" } : Jvm.MethodName)) ∈ lw_all := lw_g (lw_at lw_m10 4 rfl) rfl
theorem q2283 : (Jvm.Cond.code ({ cls := "FairHouse$Spin", name := "size", desc := "()I" } : Jvm.MethodName) prog_31_method_2_code (1 : Nat) (Option.some Jvm.ClassFile.FieldType.int)) ∈ lw_all := lw_g (lw_at lw_m10 5 rfl) rfl
theorem q3423 : (Jvm.Cond.castable "FairHouse$Spin" "java/lang/Object") ∈ lw_tbl := lw_at lw_m14 185 rfl
theorem q152 : (Jvm.Cond.initialized "FairHouse$Bench") ∈ lw_all := lw_g (lw_at lw_m1 34 rfl) rfl
theorem q946 : (Jvm.Cond.selects "FairHouse$Bench" ({ cls := "java/lang/Object", name := "getClass", desc := "()Ljava/lang/Class;" } : Jvm.MethodName) ({ cls := "java/lang/Object", name := "getClass", desc := "()Ljava/lang/Class;" } : Jvm.MethodName)) ∈ lw_all := lw_g (lw_at lw_m4 108 rfl) rfl
theorem q1098 : (Jvm.Cond.instantiable "FairHouse$Bench" (8 : Nat)) ∈ lw_all := lw_g (lw_at lw_m5 20 rfl) rfl
theorem q1100 : (Jvm.Cond.instanceMethod ({ cls := "FairHouse$Bench", name := "<init>", desc := "(I)V" } : Jvm.MethodName)) ∈ lw_all := lw_g (lw_at lw_m5 22 rfl) rfl
theorem q1101 : (Jvm.Cond.code ({ cls := "FairHouse$Bench", name := "<init>", desc := "(I)V" } : Jvm.MethodName) prog_4_method_1_code (2 : Nat) (Option.none : Option Jvm.ClassFile.FieldType)) ∈ lw_all := lw_g (lw_at lw_m5 23 rfl) rfl
theorem q1102 : (Jvm.Cond.methodLink "FairHouse$Bench" (3 : Nat) ({ cls := "java/lang/Object", name := "<init>", desc := "()V" } : Jvm.MethodName)) ∈ lw_all := lw_g (lw_at lw_m5 24 rfl) rfl
theorem q1103 : (Jvm.Cond.fieldLink "FairHouse$Bench" (18 : Nat) "FairHouse$Bench" "places" "I") ∈ lw_all := lw_g (lw_at lw_m5 25 rfl) rfl
theorem q1105 : (Jvm.Cond.fieldLink "FairHouse$Bench" (9 : Nat) "FairHouse$Bench" "came" "[I") ∈ lw_all := lw_g (lw_at lw_m5 27 rfl) rfl
theorem q1106 : (Jvm.Cond.fieldLink "FairHouse$Bench" (15 : Nat) "FairHouse$Bench" "riders" "[I") ∈ lw_all := lw_g (lw_at lw_m5 28 rfl) rfl
theorem q1107 : (Jvm.Cond.fieldLink "FairHouse$Bench" (22 : Nat) "FairHouse$Bench" "aboard" "I") ∈ lw_all := lw_g (lw_at lw_m5 29 rfl) rfl
theorem q1109 : (Jvm.Cond.fieldLink "FairHouse$Bench" (25 : Nat) "FairHouse$Bench" "first" "I") ∈ lw_all := lw_g (lw_at lw_m5 31 rfl) rfl
theorem q1110 : (Jvm.Cond.fieldLink "FairHouse$Bench" (28 : Nat) "FairHouse$Bench" "groups" "I") ∈ lw_all := lw_g (lw_at lw_m5 32 rfl) rfl
theorem q1111 : (Jvm.Cond.fieldLink "FairHouse$Bench" (31 : Nat) "FairHouse$Bench" "waiting" "I") ∈ lw_all := lw_g (lw_at lw_m5 33 rfl) rfl
theorem q1113 : (Jvm.Cond.fieldLink "FairHouse$Bench" (34 : Nat) "FairHouse$Bench" "waited" "I") ∈ lw_all := lw_g (lw_at lw_m5 35 rfl) rfl
theorem q1115 : (Jvm.Cond.laysFinal "FairHouse$Bench" "FairHouse$Bench" "places" "I") ∈ lw_all := lw_g (lw_at lw_m5 37 rfl) rfl
theorem q1116 : (Jvm.Cond.soleField "FairHouse$Bench" "places") ∈ lw_all := lw_g (lw_at lw_m5 38 rfl) rfl
theorem q1117 : (Jvm.Cond.laysFinal "FairHouse$Bench" "FairHouse$Bench" "came" "[I") ∈ lw_all := lw_g (lw_at lw_m5 39 rfl) rfl
theorem q1118 : (Jvm.Cond.soleField "FairHouse$Bench" "came") ∈ lw_all := lw_g (lw_at lw_m5 40 rfl) rfl
theorem q1119 : (Jvm.Cond.laysFinal "FairHouse$Bench" "FairHouse$Bench" "riders" "[I") ∈ lw_all := lw_g (lw_at lw_m5 41 rfl) rfl
theorem q1120 : (Jvm.Cond.soleField "FairHouse$Bench" "riders") ∈ lw_all := lw_g (lw_at lw_m5 42 rfl) rfl
theorem q1121 : (Jvm.Cond.lays "FairHouse$Bench" "FairHouse$Bench" "aboard" "I") ∈ lw_all := lw_g (lw_at lw_m5 43 rfl) rfl
theorem q1122 : (Jvm.Cond.soleField "FairHouse$Bench" "aboard") ∈ lw_all := lw_g (lw_at lw_m5 44 rfl) rfl
theorem q1123 : (Jvm.Cond.lays "FairHouse$Bench" "FairHouse$Bench" "first" "I") ∈ lw_all := lw_g (lw_at lw_m5 45 rfl) rfl
theorem q1124 : (Jvm.Cond.soleField "FairHouse$Bench" "first") ∈ lw_all := lw_g (lw_at lw_m5 46 rfl) rfl
theorem q1125 : (Jvm.Cond.lays "FairHouse$Bench" "FairHouse$Bench" "groups" "I") ∈ lw_all := lw_g (lw_at lw_m5 47 rfl) rfl
theorem q1126 : (Jvm.Cond.soleField "FairHouse$Bench" "groups") ∈ lw_all := lw_g (lw_at lw_m5 48 rfl) rfl
theorem q1127 : (Jvm.Cond.lays "FairHouse$Bench" "FairHouse$Bench" "waiting" "I") ∈ lw_all := lw_g (lw_at lw_m5 49 rfl) rfl
theorem q1128 : (Jvm.Cond.soleField "FairHouse$Bench" "waiting") ∈ lw_all := lw_g (lw_at lw_m5 50 rfl) rfl
theorem q1129 : (Jvm.Cond.lays "FairHouse$Bench" "FairHouse$Bench" "waited" "I") ∈ lw_all := lw_g (lw_at lw_m5 51 rfl) rfl
theorem q1130 : (Jvm.Cond.soleField "FairHouse$Bench" "waited") ∈ lw_all := lw_g (lw_at lw_m5 52 rfl) rfl
theorem q1131 : (Jvm.Cond.superclass "FairHouse$Bench" "java/lang/Object") ∈ lw_all := lw_g (lw_at lw_m5 53 rfl) rfl
theorem q1867 : (Jvm.Cond.instanceMethod ({ cls := "FairHouse$Bench", name := "clear", desc := "()V" } : Jvm.MethodName)) ∈ lw_all := lw_g (lw_at lw_m8 69 rfl) rfl
theorem q1868 : (Jvm.Cond.selects "FairHouse$Bench" ({ cls := "FairHouse$Bench", name := "clear", desc := "()V" } : Jvm.MethodName) ({ cls := "FairHouse$Bench", name := "clear", desc := "()V" } : Jvm.MethodName)) ∈ lw_all := lw_g (lw_at lw_m8 70 rfl) rfl
theorem q1869 : (Jvm.Cond.code ({ cls := "FairHouse$Bench", name := "clear", desc := "()V" } : Jvm.MethodName) prog_4_method_2_code (1 : Nat) (Option.none : Option Jvm.ClassFile.FieldType)) ∈ lw_all := lw_g (lw_at lw_m8 71 rfl) rfl
theorem q1963 : (Jvm.Cond.instanceMethod ({ cls := "FairHouse$Bench", name := "come", desc := "(II)Z" } : Jvm.MethodName)) ∈ lw_all := lw_g (lw_at lw_m8 165 rfl) rfl
theorem q1964 : (Jvm.Cond.selects "FairHouse$Bench" ({ cls := "FairHouse$Bench", name := "come", desc := "(II)Z" } : Jvm.MethodName) ({ cls := "FairHouse$Bench", name := "come", desc := "(II)Z" } : Jvm.MethodName)) ∈ lw_all := lw_g (lw_at lw_m8 166 rfl) rfl
theorem q1965 : (Jvm.Cond.code ({ cls := "FairHouse$Bench", name := "come", desc := "(II)Z" } : Jvm.MethodName) prog_4_method_3_code (4 : Nat) (Option.some Jvm.ClassFile.FieldType.boolean)) ∈ lw_all := lw_g (lw_at lw_m8 167 rfl) rfl
theorem q1985 : (Jvm.Cond.instanceMethod ({ cls := "FairHouse$Bench", name := "tire", desc := "(I)I" } : Jvm.MethodName)) ∈ lw_all := lw_g (lw_at lw_m8 187 rfl) rfl
theorem q1986 : (Jvm.Cond.selects "FairHouse$Bench" ({ cls := "FairHouse$Bench", name := "tire", desc := "(I)I" } : Jvm.MethodName) ({ cls := "FairHouse$Bench", name := "tire", desc := "(I)I" } : Jvm.MethodName)) ∈ lw_all := lw_g (lw_at lw_m8 188 rfl) rfl
theorem q1987 : (Jvm.Cond.code ({ cls := "FairHouse$Bench", name := "tire", desc := "(I)I" } : Jvm.MethodName) prog_4_method_5_code (3 : Nat) (Option.some Jvm.ClassFile.FieldType.int)) ∈ lw_all := lw_g (lw_at lw_m8 189 rfl) rfl
theorem q1988 : (Jvm.Cond.methodLink "FairHouse$Bench" (37 : Nat) ({ cls := "FairHouse$Bench", name := "shift", desc := "()V" } : Jvm.MethodName)) ∈ lw_all := lw_g (lw_at lw_m8 190 rfl) rfl
theorem q1989 : (Jvm.Cond.privateMethod ({ cls := "FairHouse$Bench", name := "shift", desc := "()V" } : Jvm.MethodName)) ∈ lw_tbl := lw_at lw_m8 191 rfl
theorem q1990 : (Jvm.Cond.instanceMethod ({ cls := "FairHouse$Bench", name := "shift", desc := "()V" } : Jvm.MethodName)) ∈ lw_all := lw_g (lw_at lw_m8 192 rfl) rfl
theorem q1991 : (Jvm.Cond.code ({ cls := "FairHouse$Bench", name := "shift", desc := "()V" } : Jvm.MethodName) prog_4_method_4_code (1 : Nat) (Option.none : Option Jvm.ClassFile.FieldType)) ∈ lw_all := lw_g (lw_at lw_m8 193 rfl) rfl
theorem q2180 : (Jvm.Cond.instanceMethod ({ cls := "FairHouse$Bench", name := "board", desc := "(I)I" } : Jvm.MethodName)) ∈ lw_all := lw_g (lw_at lw_m9 142 rfl) rfl
theorem q2181 : (Jvm.Cond.selects "FairHouse$Bench" ({ cls := "FairHouse$Bench", name := "board", desc := "(I)I" } : Jvm.MethodName) ({ cls := "FairHouse$Bench", name := "board", desc := "(I)I" } : Jvm.MethodName)) ∈ lw_all := lw_g (lw_at lw_m9 143 rfl) rfl
theorem q2182 : (Jvm.Cond.code ({ cls := "FairHouse$Bench", name := "board", desc := "(I)I" } : Jvm.MethodName) prog_4_method_6_code (5 : Nat) (Option.some Jvm.ClassFile.FieldType.int)) ∈ lw_all := lw_g (lw_at lw_m9 144 rfl) rfl
theorem q3424 : (Jvm.Cond.castable "FairHouse$Bench" "java/lang/Object") ∈ lw_tbl := lw_at lw_m14 186 rfl
theorem q153 : (Jvm.Cond.initialized "FairHouse$Tower") ∈ lw_all := lw_g (lw_at lw_m1 35 rfl) rfl
theorem q968 : (Jvm.Cond.selects "FairHouse$Tower" ({ cls := "java/lang/Object", name := "getClass", desc := "()Ljava/lang/Class;" } : Jvm.MethodName) ({ cls := "java/lang/Object", name := "getClass", desc := "()Ljava/lang/Class;" } : Jvm.MethodName)) ∈ lw_all := lw_g (lw_at lw_m4 130 rfl) rfl
theorem q1154 : (Jvm.Cond.instantiable "FairHouse$Tower" (5 : Nat)) ∈ lw_all := lw_g (lw_at lw_m5 76 rfl) rfl
theorem q1156 : (Jvm.Cond.instanceMethod ({ cls := "FairHouse$Tower", name := "<init>", desc := "([I)V" } : Jvm.MethodName)) ∈ lw_all := lw_g (lw_at lw_m5 78 rfl) rfl
theorem q1157 : (Jvm.Cond.code ({ cls := "FairHouse$Tower", name := "<init>", desc := "([I)V" } : Jvm.MethodName) prog_35_method_1_code (2 : Nat) (Option.none : Option Jvm.ClassFile.FieldType)) ∈ lw_all := lw_g (lw_at lw_m5 79 rfl) rfl
theorem q1158 : (Jvm.Cond.methodLink "FairHouse$Tower" (1 : Nat) ({ cls := "FairHouse$Ride", name := "<init>", desc := "(I)V" } : Jvm.MethodName)) ∈ lw_all := lw_g (lw_at lw_m5 80 rfl) rfl
theorem q1159 : (Jvm.Cond.classLink "FairHouse$Tower" (7 : Nat) "FairHouse$Hoist") ∈ lw_all := lw_g (lw_at lw_m5 81 rfl) rfl
theorem q1161 : (Jvm.Cond.methodLink "FairHouse$Tower" (9 : Nat) ({ cls := "FairHouse$Hoist", name := "<init>", desc := "(II)V" } : Jvm.MethodName)) ∈ lw_all := lw_g (lw_at lw_m5 83 rfl) rfl
theorem q1191 : (Jvm.Cond.classLink "FairHouse$Tower" (18 : Nat) "FairHouse$Bench") ∈ lw_all := lw_g (lw_at lw_m5 113 rfl) rfl
theorem q1192 : (Jvm.Cond.methodLink "FairHouse$Tower" (20 : Nat) ({ cls := "FairHouse$Bench", name := "<init>", desc := "(I)V" } : Jvm.MethodName)) ∈ lw_all := lw_g (lw_at lw_m5 114 rfl) rfl
theorem q1193 : (Jvm.Cond.fieldLink "FairHouse$Tower" (12 : Nat) "FairHouse$Tower" "hoist" "LFairHouse$Hoist;") ∈ lw_all := lw_g (lw_at lw_m5 115 rfl) rfl
theorem q1194 : (Jvm.Cond.fieldLink "FairHouse$Tower" (21 : Nat) "FairHouse$Tower" "bench" "LFairHouse$Bench;") ∈ lw_all := lw_g (lw_at lw_m5 116 rfl) rfl
theorem q1195 : (Jvm.Cond.laysFinal "FairHouse$Tower" "FairHouse$Tower" "hoist" "LFairHouse$Hoist;") ∈ lw_all := lw_g (lw_at lw_m5 117 rfl) rfl
theorem q1196 : (Jvm.Cond.soleField "FairHouse$Tower" "hoist") ∈ lw_all := lw_g (lw_at lw_m5 118 rfl) rfl
theorem q1197 : (Jvm.Cond.laysFinal "FairHouse$Tower" "FairHouse$Tower" "bench" "LFairHouse$Bench;") ∈ lw_all := lw_g (lw_at lw_m5 119 rfl) rfl
theorem q1198 : (Jvm.Cond.soleField "FairHouse$Tower" "bench") ∈ lw_all := lw_g (lw_at lw_m5 120 rfl) rfl
theorem q1199 : (Jvm.Cond.laysFinal "FairHouse$Tower" "FairHouse$Ride" "kind" "I") ∈ lw_all := lw_g (lw_at lw_m5 121 rfl) rfl
theorem q1200 : (Jvm.Cond.laysFinal "FairHouse$Tower" "FairHouse$Ride" "script" "LFairHouse$Script;") ∈ lw_all := lw_g (lw_at lw_m5 122 rfl) rfl
theorem q1201 : (Jvm.Cond.lays "FairHouse$Tower" "FairHouse$Ride" "wear" "I") ∈ lw_all := lw_g (lw_at lw_m5 123 rfl) rfl
theorem q1202 : (Jvm.Cond.superclass "FairHouse$Tower" "FairHouse$Ride") ∈ lw_all := lw_g (lw_at lw_m5 124 rfl) rfl
theorem q1758 : (Jvm.Cond.castable "FairHouse$Tower" "FairHouse$Lifts") ∈ lw_tbl := lw_at lw_m7 200 rfl
theorem q1759 : (Jvm.Cond.selects "FairHouse$Tower" ({ cls := "FairHouse$Lifts", name := "hoist", desc := "()LFairHouse$Hoist;" } : Jvm.MethodName) ({ cls := "FairHouse$Tower", name := "hoist", desc := "()LFairHouse$Hoist;" } : Jvm.MethodName)) ∈ lw_all := lw_g (lw_at lw_m7 201 rfl) rfl
theorem q1760 : (Jvm.Cond.unhidden "FairHouse$Tower" "hoist" "()LFairHouse$Hoist;") ∈ lw_tbl := lw_at lw_m7 202 rfl
theorem q1761 : (Jvm.Cond.instanceMethod ({ cls := "FairHouse$Tower", name := "hoist", desc := "()LFairHouse$Hoist;" } : Jvm.MethodName)) ∈ lw_all := lw_g (lw_at lw_m7 203 rfl) rfl
theorem q1762 : (Jvm.Cond.publicMethod ({ cls := "FairHouse$Tower", name := "hoist", desc := "()LFairHouse$Hoist;" } : Jvm.MethodName)) ∈ lw_tbl := lw_at lw_m7 204 rfl
theorem q1763 : (Jvm.Cond.code ({ cls := "FairHouse$Tower", name := "hoist", desc := "()LFairHouse$Hoist;" } : Jvm.MethodName) prog_35_method_2_code (1 : Nat) (Option.some (Jvm.ClassFile.FieldType.object "FairHouse$Hoist"))) ∈ lw_all := lw_g (lw_at lw_m7 205 rfl) rfl
theorem q1854 : (Jvm.Cond.castable "FairHouse$Tower" "FairHouse$Seats") ∈ lw_tbl := lw_at lw_m8 56 rfl
theorem q1855 : (Jvm.Cond.selects "FairHouse$Tower" ({ cls := "FairHouse$Seats", name := "bench", desc := "()LFairHouse$Bench;" } : Jvm.MethodName) ({ cls := "FairHouse$Tower", name := "bench", desc := "()LFairHouse$Bench;" } : Jvm.MethodName)) ∈ lw_all := lw_g (lw_at lw_m8 57 rfl) rfl
theorem q1856 : (Jvm.Cond.unhidden "FairHouse$Tower" "bench" "()LFairHouse$Bench;") ∈ lw_tbl := lw_at lw_m8 58 rfl
theorem q1857 : (Jvm.Cond.instanceMethod ({ cls := "FairHouse$Tower", name := "bench", desc := "()LFairHouse$Bench;" } : Jvm.MethodName)) ∈ lw_all := lw_g (lw_at lw_m8 59 rfl) rfl
theorem q1858 : (Jvm.Cond.publicMethod ({ cls := "FairHouse$Tower", name := "bench", desc := "()LFairHouse$Bench;" } : Jvm.MethodName)) ∈ lw_tbl := lw_at lw_m8 60 rfl
theorem q1859 : (Jvm.Cond.code ({ cls := "FairHouse$Tower", name := "bench", desc := "()LFairHouse$Bench;" } : Jvm.MethodName) prog_35_method_3_code (1 : Nat) (Option.some (Jvm.ClassFile.FieldType.object "FairHouse$Bench"))) ∈ lw_all := lw_g (lw_at lw_m8 61 rfl) rfl
theorem q2090 : (Jvm.Cond.unhidden "FairHouse$Tower" "isDown" "()Z") ∈ lw_tbl := lw_at lw_m9 52 rfl
theorem q2158 : (Jvm.Cond.castable "FairHouse$Tower" "FairHouse$Machine") ∈ lw_tbl := lw_at lw_m9 120 rfl
theorem q2160 : (Jvm.Cond.unhidden "FairHouse$Tower" "isCalm" "()Z") ∈ lw_tbl := lw_at lw_m9 122 rfl
theorem q2186 : (Jvm.Cond.unhidden "FairHouse$Tower" "board" "(I)I") ∈ lw_tbl := lw_at lw_m9 148 rfl
theorem q2303 : (Jvm.Cond.unhidden "FairHouse$Tower" "rise" "()V") ∈ lw_tbl := lw_at lw_m10 25 rfl
theorem q2331 : (Jvm.Cond.unhidden "FairHouse$Tower" "ease" "()V") ∈ lw_tbl := lw_at lw_m10 53 rfl
theorem q2385 : (Jvm.Cond.unhidden "FairHouse$Tower" "heave" "()I") ∈ lw_tbl := lw_at lw_m10 107 rfl
theorem q2458 : (Jvm.Cond.unhidden "FairHouse$Tower" "draw" "()I") ∈ lw_tbl := lw_at lw_m10 180 rfl
theorem q2507 : (Jvm.Cond.unhidden "FairHouse$Tower" "limit" "()I") ∈ lw_tbl := lw_at lw_m10 229 rfl
theorem q2532 : (Jvm.Cond.unhidden "FairHouse$Tower" "rub" "()I") ∈ lw_tbl := lw_at lw_m11 14 rfl
theorem q2556 : (Jvm.Cond.unhidden "FairHouse$Tower" "tear" "()I") ∈ lw_tbl := lw_at lw_m11 38 rfl
theorem q2602 : (Jvm.Cond.unhidden "FairHouse$Tower" "creak" "()I") ∈ lw_tbl := lw_at lw_m11 84 rfl
theorem q2648 : (Jvm.Cond.unhidden "FairHouse$Tower" "noise" "()I") ∈ lw_tbl := lw_at lw_m11 130 rfl
theorem q3400 : (Jvm.Cond.castable "FairHouse$Tower" "FairHouse$Ride") ∈ lw_tbl := lw_at lw_m14 162 rfl
theorem q3425 : (Jvm.Cond.castable "FairHouse$Tower" "java/lang/Object") ∈ lw_tbl := lw_at lw_m14 187 rfl
theorem q154 : (Jvm.Cond.initialized "FairHouse$Hoist") ∈ lw_all := lw_g (lw_at lw_m1 36 rfl) rfl
theorem q952 : (Jvm.Cond.selects "FairHouse$Hoist" ({ cls := "java/lang/Object", name := "getClass", desc := "()Ljava/lang/Class;" } : Jvm.MethodName) ({ cls := "java/lang/Object", name := "getClass", desc := "()Ljava/lang/Class;" } : Jvm.MethodName)) ∈ lw_all := lw_g (lw_at lw_m4 114 rfl) rfl
theorem q1160 : (Jvm.Cond.instantiable "FairHouse$Hoist" (5 : Nat)) ∈ lw_all := lw_g (lw_at lw_m5 82 rfl) rfl
theorem q1162 : (Jvm.Cond.instanceMethod ({ cls := "FairHouse$Hoist", name := "<init>", desc := "(II)V" } : Jvm.MethodName)) ∈ lw_all := lw_g (lw_at lw_m5 84 rfl) rfl
theorem q1163 : (Jvm.Cond.code ({ cls := "FairHouse$Hoist", name := "<init>", desc := "(II)V" } : Jvm.MethodName) prog_13_method_1_code (3 : Nat) (Option.none : Option Jvm.ClassFile.FieldType)) ∈ lw_all := lw_g (lw_at lw_m5 85 rfl) rfl
theorem q1164 : (Jvm.Cond.methodLink "FairHouse$Hoist" (1 : Nat) ({ cls := "java/lang/Object", name := "<init>", desc := "()V" } : Jvm.MethodName)) ∈ lw_all := lw_g (lw_at lw_m5 86 rfl) rfl
theorem q1165 : (Jvm.Cond.fieldLink "FairHouse$Hoist" (7 : Nat) "FairHouse$Hoist" "load" "I") ∈ lw_all := lw_g (lw_at lw_m5 87 rfl) rfl
theorem q1167 : (Jvm.Cond.fieldLink "FairHouse$Hoist" (13 : Nat) "FairHouse$Hoist" "pace" "I") ∈ lw_all := lw_g (lw_at lw_m5 89 rfl) rfl
theorem q1171 : (Jvm.Cond.fieldLink "FairHouse$Hoist" (16 : Nat) "FairHouse$Hoist" "height" "I") ∈ lw_all := lw_g (lw_at lw_m5 93 rfl) rfl
theorem q1175 : (Jvm.Cond.fieldLink "FairHouse$Hoist" (19 : Nat) "FairHouse$Hoist" "goal" "I") ∈ lw_all := lw_g (lw_at lw_m5 97 rfl) rfl
theorem q1178 : (Jvm.Cond.fieldLink "FairHouse$Hoist" (22 : Nat) "FairHouse$Hoist" "moved" "I") ∈ lw_all := lw_g (lw_at lw_m5 100 rfl) rfl
theorem q1180 : (Jvm.Cond.laysFinal "FairHouse$Hoist" "FairHouse$Hoist" "load" "I") ∈ lw_all := lw_g (lw_at lw_m5 102 rfl) rfl
theorem q1181 : (Jvm.Cond.soleField "FairHouse$Hoist" "load") ∈ lw_all := lw_g (lw_at lw_m5 103 rfl) rfl
theorem q1182 : (Jvm.Cond.laysFinal "FairHouse$Hoist" "FairHouse$Hoist" "pace" "I") ∈ lw_all := lw_g (lw_at lw_m5 104 rfl) rfl
theorem q1183 : (Jvm.Cond.soleField "FairHouse$Hoist" "pace") ∈ lw_all := lw_g (lw_at lw_m5 105 rfl) rfl
theorem q1184 : (Jvm.Cond.lays "FairHouse$Hoist" "FairHouse$Hoist" "height" "I") ∈ lw_all := lw_g (lw_at lw_m5 106 rfl) rfl
theorem q1185 : (Jvm.Cond.soleField "FairHouse$Hoist" "height") ∈ lw_all := lw_g (lw_at lw_m5 107 rfl) rfl
theorem q1186 : (Jvm.Cond.lays "FairHouse$Hoist" "FairHouse$Hoist" "goal" "I") ∈ lw_all := lw_g (lw_at lw_m5 108 rfl) rfl
theorem q1187 : (Jvm.Cond.soleField "FairHouse$Hoist" "goal") ∈ lw_all := lw_g (lw_at lw_m5 109 rfl) rfl
theorem q1188 : (Jvm.Cond.lays "FairHouse$Hoist" "FairHouse$Hoist" "moved" "I") ∈ lw_all := lw_g (lw_at lw_m5 110 rfl) rfl
theorem q1189 : (Jvm.Cond.soleField "FairHouse$Hoist" "moved") ∈ lw_all := lw_g (lw_at lw_m5 111 rfl) rfl
theorem q1190 : (Jvm.Cond.superclass "FairHouse$Hoist" "java/lang/Object") ∈ lw_all := lw_g (lw_at lw_m5 112 rfl) rfl
theorem q2255 : (Jvm.Cond.instanceMethod ({ cls := "FairHouse$Hoist", name := "near", desc := "(II)V" } : Jvm.MethodName)) ∈ lw_all := lw_g (lw_at lw_m9 217 rfl) rfl
theorem q2256 : (Jvm.Cond.selects "FairHouse$Hoist" ({ cls := "FairHouse$Hoist", name := "near", desc := "(II)V" } : Jvm.MethodName) ({ cls := "FairHouse$Hoist", name := "near", desc := "(II)V" } : Jvm.MethodName)) ∈ lw_all := lw_g (lw_at lw_m9 218 rfl) rfl
theorem q2257 : (Jvm.Cond.code ({ cls := "FairHouse$Hoist", name := "near", desc := "(II)V" } : Jvm.MethodName) prog_13_method_2_code (4 : Nat) (Option.none : Option Jvm.ClassFile.FieldType)) ∈ lw_all := lw_g (lw_at lw_m9 219 rfl) rfl
theorem q3426 : (Jvm.Cond.castable "FairHouse$Hoist" "java/lang/Object") ∈ lw_tbl := lw_at lw_m14 188 rfl
theorem q155 : (Jvm.Cond.initialized "FairHouse$Swing") ∈ lw_all := lw_g (lw_at lw_m1 37 rfl) rfl
theorem q966 : (Jvm.Cond.selects "FairHouse$Swing" ({ cls := "java/lang/Object", name := "getClass", desc := "()Ljava/lang/Class;" } : Jvm.MethodName) ({ cls := "java/lang/Object", name := "getClass", desc := "()Ljava/lang/Class;" } : Jvm.MethodName)) ∈ lw_all := lw_g (lw_at lw_m4 128 rfl) rfl
theorem q1170 : (Jvm.Cond.fieldLinkNest "FairHouse$Swing" (72 : Nat) "FairHouse$Hoist" "pace" "I" "FairHouse") ∈ lw_tbl := lw_at lw_m5 92 rfl
theorem q1204 : (Jvm.Cond.instantiable "FairHouse$Swing" (6 : Nat)) ∈ lw_all := lw_g (lw_at lw_m5 126 rfl) rfl
theorem q1206 : (Jvm.Cond.instanceMethod ({ cls := "FairHouse$Swing", name := "<init>", desc := "([I)V" } : Jvm.MethodName)) ∈ lw_all := lw_g (lw_at lw_m5 128 rfl) rfl
theorem q1207 : (Jvm.Cond.code ({ cls := "FairHouse$Swing", name := "<init>", desc := "([I)V" } : Jvm.MethodName) prog_33_method_1_code (2 : Nat) (Option.none : Option Jvm.ClassFile.FieldType)) ∈ lw_all := lw_g (lw_at lw_m5 129 rfl) rfl
theorem q1208 : (Jvm.Cond.methodLink "FairHouse$Swing" (1 : Nat) ({ cls := "FairHouse$Ride", name := "<init>", desc := "(I)V" } : Jvm.MethodName)) ∈ lw_all := lw_g (lw_at lw_m5 130 rfl) rfl
theorem q1209 : (Jvm.Cond.classLink "FairHouse$Swing" (7 : Nat) "FairHouse$Spin") ∈ lw_all := lw_g (lw_at lw_m5 131 rfl) rfl
theorem q1210 : (Jvm.Cond.methodLink "FairHouse$Swing" (9 : Nat) ({ cls := "FairHouse$Spin", name := "<init>", desc := "(II)V" } : Jvm.MethodName)) ∈ lw_all := lw_g (lw_at lw_m5 132 rfl) rfl
theorem q1211 : (Jvm.Cond.classLink "FairHouse$Swing" (18 : Nat) "FairHouse$Hoist") ∈ lw_all := lw_g (lw_at lw_m5 133 rfl) rfl
theorem q1212 : (Jvm.Cond.methodLink "FairHouse$Swing" (20 : Nat) ({ cls := "FairHouse$Hoist", name := "<init>", desc := "(II)V" } : Jvm.MethodName)) ∈ lw_all := lw_g (lw_at lw_m5 134 rfl) rfl
theorem q1213 : (Jvm.Cond.classLink "FairHouse$Swing" (25 : Nat) "FairHouse$Bench") ∈ lw_all := lw_g (lw_at lw_m5 135 rfl) rfl
theorem q1214 : (Jvm.Cond.methodLink "FairHouse$Swing" (27 : Nat) ({ cls := "FairHouse$Bench", name := "<init>", desc := "(I)V" } : Jvm.MethodName)) ∈ lw_all := lw_g (lw_at lw_m5 136 rfl) rfl
theorem q1215 : (Jvm.Cond.fieldLink "FairHouse$Swing" (12 : Nat) "FairHouse$Swing" "spin" "LFairHouse$Spin;") ∈ lw_all := lw_g (lw_at lw_m5 137 rfl) rfl
theorem q1216 : (Jvm.Cond.fieldLink "FairHouse$Swing" (21 : Nat) "FairHouse$Swing" "hoist" "LFairHouse$Hoist;") ∈ lw_all := lw_g (lw_at lw_m5 138 rfl) rfl
theorem q1217 : (Jvm.Cond.fieldLink "FairHouse$Swing" (28 : Nat) "FairHouse$Swing" "bench" "LFairHouse$Bench;") ∈ lw_all := lw_g (lw_at lw_m5 139 rfl) rfl
theorem q1218 : (Jvm.Cond.laysFinal "FairHouse$Swing" "FairHouse$Swing" "spin" "LFairHouse$Spin;") ∈ lw_all := lw_g (lw_at lw_m5 140 rfl) rfl
theorem q1219 : (Jvm.Cond.soleField "FairHouse$Swing" "spin") ∈ lw_all := lw_g (lw_at lw_m5 141 rfl) rfl
theorem q1220 : (Jvm.Cond.laysFinal "FairHouse$Swing" "FairHouse$Swing" "hoist" "LFairHouse$Hoist;") ∈ lw_all := lw_g (lw_at lw_m5 142 rfl) rfl
theorem q1221 : (Jvm.Cond.soleField "FairHouse$Swing" "hoist") ∈ lw_all := lw_g (lw_at lw_m5 143 rfl) rfl
theorem q1222 : (Jvm.Cond.laysFinal "FairHouse$Swing" "FairHouse$Swing" "bench" "LFairHouse$Bench;") ∈ lw_all := lw_g (lw_at lw_m5 144 rfl) rfl
theorem q1223 : (Jvm.Cond.soleField "FairHouse$Swing" "bench") ∈ lw_all := lw_g (lw_at lw_m5 145 rfl) rfl
theorem q1224 : (Jvm.Cond.laysFinal "FairHouse$Swing" "FairHouse$Ride" "kind" "I") ∈ lw_all := lw_g (lw_at lw_m5 146 rfl) rfl
theorem q1225 : (Jvm.Cond.laysFinal "FairHouse$Swing" "FairHouse$Ride" "script" "LFairHouse$Script;") ∈ lw_all := lw_g (lw_at lw_m5 147 rfl) rfl
theorem q1226 : (Jvm.Cond.lays "FairHouse$Swing" "FairHouse$Ride" "wear" "I") ∈ lw_all := lw_g (lw_at lw_m5 148 rfl) rfl
theorem q1227 : (Jvm.Cond.superclass "FairHouse$Swing" "FairHouse$Ride") ∈ lw_all := lw_g (lw_at lw_m5 149 rfl) rfl
theorem q1409 : (Jvm.Cond.castable "FairHouse$Swing" "FairHouse$Turns") ∈ lw_tbl := lw_at lw_m6 91 rfl
theorem q1410 : (Jvm.Cond.selects "FairHouse$Swing" ({ cls := "FairHouse$Turns", name := "spin", desc := "()LFairHouse$Spin;" } : Jvm.MethodName) ({ cls := "FairHouse$Swing", name := "spin", desc := "()LFairHouse$Spin;" } : Jvm.MethodName)) ∈ lw_all := lw_g (lw_at lw_m6 92 rfl) rfl
theorem q1411 : (Jvm.Cond.unhidden "FairHouse$Swing" "spin" "()LFairHouse$Spin;") ∈ lw_tbl := lw_at lw_m6 93 rfl
theorem q1412 : (Jvm.Cond.instanceMethod ({ cls := "FairHouse$Swing", name := "spin", desc := "()LFairHouse$Spin;" } : Jvm.MethodName)) ∈ lw_all := lw_g (lw_at lw_m6 94 rfl) rfl
theorem q1413 : (Jvm.Cond.publicMethod ({ cls := "FairHouse$Swing", name := "spin", desc := "()LFairHouse$Spin;" } : Jvm.MethodName)) ∈ lw_tbl := lw_at lw_m6 95 rfl
theorem q1414 : (Jvm.Cond.code ({ cls := "FairHouse$Swing", name := "spin", desc := "()LFairHouse$Spin;" } : Jvm.MethodName) prog_33_method_2_code (1 : Nat) (Option.some (Jvm.ClassFile.FieldType.object "FairHouse$Spin"))) ∈ lw_all := lw_g (lw_at lw_m6 96 rfl) rfl
theorem q1752 : (Jvm.Cond.castable "FairHouse$Swing" "FairHouse$Lifts") ∈ lw_tbl := lw_at lw_m7 194 rfl
theorem q1753 : (Jvm.Cond.selects "FairHouse$Swing" ({ cls := "FairHouse$Lifts", name := "hoist", desc := "()LFairHouse$Hoist;" } : Jvm.MethodName) ({ cls := "FairHouse$Swing", name := "hoist", desc := "()LFairHouse$Hoist;" } : Jvm.MethodName)) ∈ lw_all := lw_g (lw_at lw_m7 195 rfl) rfl
theorem q1754 : (Jvm.Cond.unhidden "FairHouse$Swing" "hoist" "()LFairHouse$Hoist;") ∈ lw_tbl := lw_at lw_m7 196 rfl
theorem q1755 : (Jvm.Cond.instanceMethod ({ cls := "FairHouse$Swing", name := "hoist", desc := "()LFairHouse$Hoist;" } : Jvm.MethodName)) ∈ lw_all := lw_g (lw_at lw_m7 197 rfl) rfl
theorem q1756 : (Jvm.Cond.publicMethod ({ cls := "FairHouse$Swing", name := "hoist", desc := "()LFairHouse$Hoist;" } : Jvm.MethodName)) ∈ lw_tbl := lw_at lw_m7 198 rfl
theorem q1757 : (Jvm.Cond.code ({ cls := "FairHouse$Swing", name := "hoist", desc := "()LFairHouse$Hoist;" } : Jvm.MethodName) prog_33_method_3_code (1 : Nat) (Option.some (Jvm.ClassFile.FieldType.object "FairHouse$Hoist"))) ∈ lw_all := lw_g (lw_at lw_m7 199 rfl) rfl
theorem q1842 : (Jvm.Cond.castable "FairHouse$Swing" "FairHouse$Seats") ∈ lw_tbl := lw_at lw_m8 44 rfl
theorem q1843 : (Jvm.Cond.selects "FairHouse$Swing" ({ cls := "FairHouse$Seats", name := "bench", desc := "()LFairHouse$Bench;" } : Jvm.MethodName) ({ cls := "FairHouse$Swing", name := "bench", desc := "()LFairHouse$Bench;" } : Jvm.MethodName)) ∈ lw_all := lw_g (lw_at lw_m8 45 rfl) rfl
theorem q1844 : (Jvm.Cond.unhidden "FairHouse$Swing" "bench" "()LFairHouse$Bench;") ∈ lw_tbl := lw_at lw_m8 46 rfl
theorem q1845 : (Jvm.Cond.instanceMethod ({ cls := "FairHouse$Swing", name := "bench", desc := "()LFairHouse$Bench;" } : Jvm.MethodName)) ∈ lw_all := lw_g (lw_at lw_m8 47 rfl) rfl
theorem q1846 : (Jvm.Cond.publicMethod ({ cls := "FairHouse$Swing", name := "bench", desc := "()LFairHouse$Bench;" } : Jvm.MethodName)) ∈ lw_tbl := lw_at lw_m8 48 rfl
theorem q1847 : (Jvm.Cond.code ({ cls := "FairHouse$Swing", name := "bench", desc := "()LFairHouse$Bench;" } : Jvm.MethodName) prog_33_method_4_code (1 : Nat) (Option.some (Jvm.ClassFile.FieldType.object "FairHouse$Bench"))) ∈ lw_all := lw_g (lw_at lw_m8 49 rfl) rfl
theorem q2089 : (Jvm.Cond.unhidden "FairHouse$Swing" "isDown" "()Z") ∈ lw_tbl := lw_at lw_m9 51 rfl
theorem q2133 : (Jvm.Cond.unhidden "FairHouse$Swing" "isStill" "()Z") ∈ lw_tbl := lw_at lw_m9 95 rfl
theorem q2140 : (Jvm.Cond.castable "FairHouse$Swing" "FairHouse$Machine") ∈ lw_tbl := lw_at lw_m9 102 rfl
theorem q2141 : (Jvm.Cond.selects "FairHouse$Swing" ({ cls := "FairHouse$Machine", name := "isCalm", desc := "()Z" } : Jvm.MethodName) ({ cls := "FairHouse$Swing", name := "isCalm", desc := "()Z" } : Jvm.MethodName)) ∈ lw_all := lw_g (lw_at lw_m9 103 rfl) rfl
theorem q2142 : (Jvm.Cond.unhidden "FairHouse$Swing" "isCalm" "()Z") ∈ lw_tbl := lw_at lw_m9 104 rfl
theorem q2143 : (Jvm.Cond.instanceMethod ({ cls := "FairHouse$Swing", name := "isCalm", desc := "()Z" } : Jvm.MethodName)) ∈ lw_all := lw_g (lw_at lw_m9 105 rfl) rfl
theorem q2144 : (Jvm.Cond.publicMethod ({ cls := "FairHouse$Swing", name := "isCalm", desc := "()Z" } : Jvm.MethodName)) ∈ lw_tbl := lw_at lw_m9 106 rfl
theorem q2145 : (Jvm.Cond.code ({ cls := "FairHouse$Swing", name := "isCalm", desc := "()Z" } : Jvm.MethodName) prog_33_method_8_code (3 : Nat) (Option.some Jvm.ClassFile.FieldType.boolean)) ∈ lw_all := lw_g (lw_at lw_m9 107 rfl) rfl
theorem q2146 : (Jvm.Cond.interfaceEntry "FairHouse$Swing" (61 : Nat)) ∈ lw_tbl := lw_at lw_m9 108 rfl
theorem q2147 : (Jvm.Cond.methodLink "FairHouse$Swing" (61 : Nat) ({ cls := "FairHouse$Turns", name := "isStill", desc := "()Z" } : Jvm.MethodName)) ∈ lw_all := lw_g (lw_at lw_m9 109 rfl) rfl
theorem q2148 : (Jvm.Cond.interfaceEntry "FairHouse$Swing" (65 : Nat)) ∈ lw_tbl := lw_at lw_m9 110 rfl
theorem q2149 : (Jvm.Cond.methodLink "FairHouse$Swing" (65 : Nat) ({ cls := "FairHouse$Lifts", name := "isDown", desc := "()Z" } : Jvm.MethodName)) ∈ lw_all := lw_g (lw_at lw_m9 111 rfl) rfl
theorem q2184 : (Jvm.Cond.unhidden "FairHouse$Swing" "board" "(I)I") ∈ lw_tbl := lw_at lw_m9 146 rfl
theorem q2277 : (Jvm.Cond.unhidden "FairHouse$Swing" "turn" "()V") ∈ lw_tbl := lw_at lw_m9 239 rfl
theorem q2302 : (Jvm.Cond.unhidden "FairHouse$Swing" "rise" "()V") ∈ lw_tbl := lw_at lw_m10 24 rfl
theorem q2304 : (Jvm.Cond.selects "FairHouse$Swing" ({ cls := "FairHouse$Machine", name := "ease", desc := "()V" } : Jvm.MethodName) ({ cls := "FairHouse$Swing", name := "ease", desc := "()V" } : Jvm.MethodName)) ∈ lw_all := lw_g (lw_at lw_m10 26 rfl) rfl
theorem q2305 : (Jvm.Cond.unhidden "FairHouse$Swing" "ease" "()V") ∈ lw_tbl := lw_at lw_m10 27 rfl
theorem q2306 : (Jvm.Cond.instanceMethod ({ cls := "FairHouse$Swing", name := "ease", desc := "()V" } : Jvm.MethodName)) ∈ lw_all := lw_g (lw_at lw_m10 28 rfl) rfl
theorem q2307 : (Jvm.Cond.publicMethod ({ cls := "FairHouse$Swing", name := "ease", desc := "()V" } : Jvm.MethodName)) ∈ lw_tbl := lw_at lw_m10 29 rfl
theorem q2308 : (Jvm.Cond.code ({ cls := "FairHouse$Swing", name := "ease", desc := "()V" } : Jvm.MethodName) prog_33_method_10_code (2 : Nat) (Option.none : Option Jvm.ClassFile.FieldType)) ∈ lw_all := lw_g (lw_at lw_m10 30 rfl) rfl
theorem q2309 : (Jvm.Cond.interfaceEntry "FairHouse$Swing" (68 : Nat)) ∈ lw_tbl := lw_at lw_m10 31 rfl
theorem q2310 : (Jvm.Cond.methodLink "FairHouse$Swing" (68 : Nat) ({ cls := "FairHouse$Turns", name := "turn", desc := "()V" } : Jvm.MethodName)) ∈ lw_all := lw_g (lw_at lw_m10 32 rfl) rfl
theorem q2311 : (Jvm.Cond.methodLink "FairHouse$Swing" (55 : Nat) ({ cls := "FairHouse$Spin", name := "size", desc := "()I" } : Jvm.MethodName)) ∈ lw_all := lw_g (lw_at lw_m10 33 rfl) rfl
theorem q2312 : (Jvm.Cond.methodLink "FairHouse$Swing" (76 : Nat) ({ cls := "FairHouse$Hoist", name := "near", desc := "(II)V" } : Jvm.MethodName)) ∈ lw_all := lw_g (lw_at lw_m10 34 rfl) rfl
theorem q2384 : (Jvm.Cond.unhidden "FairHouse$Swing" "heave" "()I") ∈ lw_tbl := lw_at lw_m10 106 rfl
theorem q2423 : (Jvm.Cond.unhidden "FairHouse$Swing" "pull" "()I") ∈ lw_tbl := lw_at lw_m10 145 rfl
theorem q2441 : (Jvm.Cond.selects "FairHouse$Swing" ({ cls := "FairHouse$Machine", name := "draw", desc := "()I" } : Jvm.MethodName) ({ cls := "FairHouse$Swing", name := "draw", desc := "()I" } : Jvm.MethodName)) ∈ lw_all := lw_g (lw_at lw_m10 163 rfl) rfl
theorem q2442 : (Jvm.Cond.unhidden "FairHouse$Swing" "draw" "()I") ∈ lw_tbl := lw_at lw_m10 164 rfl
theorem q2443 : (Jvm.Cond.instanceMethod ({ cls := "FairHouse$Swing", name := "draw", desc := "()I" } : Jvm.MethodName)) ∈ lw_all := lw_g (lw_at lw_m10 165 rfl) rfl
theorem q2444 : (Jvm.Cond.publicMethod ({ cls := "FairHouse$Swing", name := "draw", desc := "()I" } : Jvm.MethodName)) ∈ lw_tbl := lw_at lw_m10 166 rfl
theorem q2445 : (Jvm.Cond.code ({ cls := "FairHouse$Swing", name := "draw", desc := "()I" } : Jvm.MethodName) prog_33_method_5_code (3 : Nat) (Option.some Jvm.ClassFile.FieldType.int)) ∈ lw_all := lw_g (lw_at lw_m10 167 rfl) rfl
theorem q2446 : (Jvm.Cond.interfaceEntry "FairHouse$Swing" (32 : Nat)) ∈ lw_tbl := lw_at lw_m10 168 rfl
theorem q2447 : (Jvm.Cond.methodLink "FairHouse$Swing" (32 : Nat) ({ cls := "FairHouse$Turns", name := "pull", desc := "()I" } : Jvm.MethodName)) ∈ lw_all := lw_g (lw_at lw_m10 169 rfl) rfl
theorem q2448 : (Jvm.Cond.interfaceEntry "FairHouse$Swing" (38 : Nat)) ∈ lw_tbl := lw_at lw_m10 170 rfl
theorem q2449 : (Jvm.Cond.methodLink "FairHouse$Swing" (38 : Nat) ({ cls := "FairHouse$Lifts", name := "heave", desc := "()I" } : Jvm.MethodName)) ∈ lw_all := lw_g (lw_at lw_m10 171 rfl) rfl
theorem q2450 : (Jvm.Cond.methodLink "FairHouse$Swing" (43 : Nat) ({ cls := "java/lang/Math", name := "max", desc := "(II)I" } : Jvm.MethodName)) ∈ lw_all := lw_g (lw_at lw_m10 172 rfl) rfl
theorem q2501 : (Jvm.Cond.selects "FairHouse$Swing" ({ cls := "FairHouse$Machine", name := "limit", desc := "()I" } : Jvm.MethodName) ({ cls := "FairHouse$Swing", name := "limit", desc := "()I" } : Jvm.MethodName)) ∈ lw_all := lw_g (lw_at lw_m10 223 rfl) rfl
theorem q2502 : (Jvm.Cond.unhidden "FairHouse$Swing" "limit" "()I") ∈ lw_tbl := lw_at lw_m10 224 rfl
theorem q2503 : (Jvm.Cond.instanceMethod ({ cls := "FairHouse$Swing", name := "limit", desc := "()I" } : Jvm.MethodName)) ∈ lw_all := lw_g (lw_at lw_m10 225 rfl) rfl
theorem q2504 : (Jvm.Cond.publicMethod ({ cls := "FairHouse$Swing", name := "limit", desc := "()I" } : Jvm.MethodName)) ∈ lw_tbl := lw_at lw_m10 226 rfl
theorem q2505 : (Jvm.Cond.code ({ cls := "FairHouse$Swing", name := "limit", desc := "()I" } : Jvm.MethodName) prog_33_method_9_code (1 : Nat) (Option.some Jvm.ClassFile.FieldType.int)) ∈ lw_all := lw_g (lw_at lw_m10 227 rfl) rfl
theorem q2531 : (Jvm.Cond.unhidden "FairHouse$Swing" "rub" "()I") ∈ lw_tbl := lw_at lw_m11 13 rfl
theorem q2547 : (Jvm.Cond.selects "FairHouse$Swing" ({ cls := "FairHouse$Machine", name := "tear", desc := "()I" } : Jvm.MethodName) ({ cls := "FairHouse$Swing", name := "tear", desc := "()I" } : Jvm.MethodName)) ∈ lw_all := lw_g (lw_at lw_m11 29 rfl) rfl
theorem q2548 : (Jvm.Cond.unhidden "FairHouse$Swing" "tear" "()I") ∈ lw_tbl := lw_at lw_m11 30 rfl
theorem q2549 : (Jvm.Cond.instanceMethod ({ cls := "FairHouse$Swing", name := "tear", desc := "()I" } : Jvm.MethodName)) ∈ lw_all := lw_g (lw_at lw_m11 31 rfl) rfl
theorem q2550 : (Jvm.Cond.publicMethod ({ cls := "FairHouse$Swing", name := "tear", desc := "()I" } : Jvm.MethodName)) ∈ lw_tbl := lw_at lw_m11 32 rfl
theorem q2551 : (Jvm.Cond.code ({ cls := "FairHouse$Swing", name := "tear", desc := "()I" } : Jvm.MethodName) prog_33_method_7_code (2 : Nat) (Option.some Jvm.ClassFile.FieldType.int)) ∈ lw_all := lw_g (lw_at lw_m11 33 rfl) rfl
theorem q2552 : (Jvm.Cond.interfaceEntry "FairHouse$Swing" (58 : Nat)) ∈ lw_tbl := lw_at lw_m11 34 rfl
theorem q2553 : (Jvm.Cond.methodLink "FairHouse$Swing" (58 : Nat) ({ cls := "FairHouse$Lifts", name := "rub", desc := "()I" } : Jvm.MethodName)) ∈ lw_all := lw_g (lw_at lw_m11 35 rfl) rfl
theorem q2601 : (Jvm.Cond.unhidden "FairHouse$Swing" "creak" "()I") ∈ lw_tbl := lw_at lw_m11 83 rfl
theorem q2628 : (Jvm.Cond.unhidden "FairHouse$Swing" "hum" "()I") ∈ lw_tbl := lw_at lw_m11 110 rfl
theorem q2633 : (Jvm.Cond.selects "FairHouse$Swing" ({ cls := "FairHouse$Machine", name := "noise", desc := "()I" } : Jvm.MethodName) ({ cls := "FairHouse$Swing", name := "noise", desc := "()I" } : Jvm.MethodName)) ∈ lw_all := lw_g (lw_at lw_m11 115 rfl) rfl
theorem q2634 : (Jvm.Cond.unhidden "FairHouse$Swing" "noise" "()I") ∈ lw_tbl := lw_at lw_m11 116 rfl
theorem q2635 : (Jvm.Cond.instanceMethod ({ cls := "FairHouse$Swing", name := "noise", desc := "()I" } : Jvm.MethodName)) ∈ lw_all := lw_g (lw_at lw_m11 117 rfl) rfl
theorem q2636 : (Jvm.Cond.publicMethod ({ cls := "FairHouse$Swing", name := "noise", desc := "()I" } : Jvm.MethodName)) ∈ lw_tbl := lw_at lw_m11 118 rfl
theorem q2637 : (Jvm.Cond.code ({ cls := "FairHouse$Swing", name := "noise", desc := "()I" } : Jvm.MethodName) prog_33_method_6_code (3 : Nat) (Option.some Jvm.ClassFile.FieldType.int)) ∈ lw_all := lw_g (lw_at lw_m11 119 rfl) rfl
theorem q2638 : (Jvm.Cond.interfaceEntry "FairHouse$Swing" (49 : Nat)) ∈ lw_tbl := lw_at lw_m11 120 rfl
theorem q2639 : (Jvm.Cond.methodLink "FairHouse$Swing" (49 : Nat) ({ cls := "FairHouse$Turns", name := "hum", desc := "()I" } : Jvm.MethodName)) ∈ lw_all := lw_g (lw_at lw_m11 121 rfl) rfl
theorem q2640 : (Jvm.Cond.interfaceEntry "FairHouse$Swing" (52 : Nat)) ∈ lw_tbl := lw_at lw_m11 122 rfl
theorem q2641 : (Jvm.Cond.methodLink "FairHouse$Swing" (52 : Nat) ({ cls := "FairHouse$Lifts", name := "creak", desc := "()I" } : Jvm.MethodName)) ∈ lw_all := lw_g (lw_at lw_m11 123 rfl) rfl
theorem q3398 : (Jvm.Cond.castable "FairHouse$Swing" "FairHouse$Ride") ∈ lw_tbl := lw_at lw_m14 160 rfl
theorem q3427 : (Jvm.Cond.castable "FairHouse$Swing" "java/lang/Object") ∈ lw_tbl := lw_at lw_m14 189 rfl
theorem q156 : (Jvm.Cond.initialized "FairHouse$Organ") ∈ lw_all := lw_g (lw_at lw_m1 38 rfl) rfl
theorem q957 : (Jvm.Cond.selects "FairHouse$Organ" ({ cls := "java/lang/Object", name := "getClass", desc := "()Ljava/lang/Class;" } : Jvm.MethodName) ({ cls := "java/lang/Object", name := "getClass", desc := "()Ljava/lang/Class;" } : Jvm.MethodName)) ∈ lw_all := lw_g (lw_at lw_m4 119 rfl) rfl
theorem q1084 : (Jvm.Cond.fieldLinkNest "FairHouse$Organ" (38 : Nat) "FairHouse$Spin" "speed" "I" "FairHouse") ∈ lw_tbl := lw_at lw_m5 6 rfl
theorem q1229 : (Jvm.Cond.instantiable "FairHouse$Organ" (5 : Nat)) ∈ lw_all := lw_g (lw_at lw_m5 151 rfl) rfl
theorem q1231 : (Jvm.Cond.instanceMethod ({ cls := "FairHouse$Organ", name := "<init>", desc := "([I)V" } : Jvm.MethodName)) ∈ lw_all := lw_g (lw_at lw_m5 153 rfl) rfl
theorem q1232 : (Jvm.Cond.code ({ cls := "FairHouse$Organ", name := "<init>", desc := "([I)V" } : Jvm.MethodName) prog_21_method_1_code (2 : Nat) (Option.none : Option Jvm.ClassFile.FieldType)) ∈ lw_all := lw_g (lw_at lw_m5 154 rfl) rfl
theorem q1233 : (Jvm.Cond.methodLink "FairHouse$Organ" (1 : Nat) ({ cls := "FairHouse$Ride", name := "<init>", desc := "(I)V" } : Jvm.MethodName)) ∈ lw_all := lw_g (lw_at lw_m5 155 rfl) rfl
theorem q1234 : (Jvm.Cond.classLink "FairHouse$Organ" (7 : Nat) "FairHouse$Voice") ∈ lw_all := lw_g (lw_at lw_m5 156 rfl) rfl
theorem q1236 : (Jvm.Cond.methodLinkNest "FairHouse$Organ" (9 : Nat) ({ cls := "FairHouse$Voice", name := "<init>", desc := "()V" } : Jvm.MethodName) "FairHouse") ∈ lw_tbl := lw_at lw_m5 158 rfl
theorem q1241 : (Jvm.Cond.fieldLinkNest "FairHouse$Organ" (42 : Nat) "FairHouse$Voice" "volume" "I" "FairHouse") ∈ lw_tbl := lw_at lw_m5 163 rfl
theorem q1249 : (Jvm.Cond.classLink "FairHouse$Organ" (18 : Nat) "FairHouse$Spin") ∈ lw_all := lw_g (lw_at lw_m5 171 rfl) rfl
theorem q1250 : (Jvm.Cond.methodLink "FairHouse$Organ" (20 : Nat) ({ cls := "FairHouse$Spin", name := "<init>", desc := "(II)V" } : Jvm.MethodName)) ∈ lw_all := lw_g (lw_at lw_m5 172 rfl) rfl
theorem q1251 : (Jvm.Cond.fieldLink "FairHouse$Organ" (23 : Nat) "FairHouse$Organ" "spin" "LFairHouse$Spin;") ∈ lw_all := lw_g (lw_at lw_m5 173 rfl) rfl
theorem q1252 : (Jvm.Cond.fieldLink "FairHouse$Organ" (12 : Nat) "FairHouse$Organ" "voice" "LFairHouse$Voice;") ∈ lw_all := lw_g (lw_at lw_m5 174 rfl) rfl
theorem q1253 : (Jvm.Cond.laysFinal "FairHouse$Organ" "FairHouse$Organ" "spin" "LFairHouse$Spin;") ∈ lw_all := lw_g (lw_at lw_m5 175 rfl) rfl
theorem q1254 : (Jvm.Cond.soleField "FairHouse$Organ" "spin") ∈ lw_all := lw_g (lw_at lw_m5 176 rfl) rfl
theorem q1255 : (Jvm.Cond.laysFinal "FairHouse$Organ" "FairHouse$Organ" "voice" "LFairHouse$Voice;") ∈ lw_all := lw_g (lw_at lw_m5 177 rfl) rfl
theorem q1256 : (Jvm.Cond.soleField "FairHouse$Organ" "voice") ∈ lw_all := lw_g (lw_at lw_m5 178 rfl) rfl
theorem q1257 : (Jvm.Cond.laysFinal "FairHouse$Organ" "FairHouse$Ride" "kind" "I") ∈ lw_all := lw_g (lw_at lw_m5 179 rfl) rfl
theorem q1258 : (Jvm.Cond.laysFinal "FairHouse$Organ" "FairHouse$Ride" "script" "LFairHouse$Script;") ∈ lw_all := lw_g (lw_at lw_m5 180 rfl) rfl
theorem q1259 : (Jvm.Cond.lays "FairHouse$Organ" "FairHouse$Ride" "wear" "I") ∈ lw_all := lw_g (lw_at lw_m5 181 rfl) rfl
theorem q1260 : (Jvm.Cond.superclass "FairHouse$Organ" "FairHouse$Ride") ∈ lw_all := lw_g (lw_at lw_m5 182 rfl) rfl
theorem q1397 : (Jvm.Cond.castable "FairHouse$Organ" "FairHouse$Turns") ∈ lw_tbl := lw_at lw_m6 79 rfl
theorem q1398 : (Jvm.Cond.selects "FairHouse$Organ" ({ cls := "FairHouse$Turns", name := "spin", desc := "()LFairHouse$Spin;" } : Jvm.MethodName) ({ cls := "FairHouse$Organ", name := "spin", desc := "()LFairHouse$Spin;" } : Jvm.MethodName)) ∈ lw_all := lw_g (lw_at lw_m6 80 rfl) rfl
theorem q1399 : (Jvm.Cond.unhidden "FairHouse$Organ" "spin" "()LFairHouse$Spin;") ∈ lw_tbl := lw_at lw_m6 81 rfl
theorem q1400 : (Jvm.Cond.instanceMethod ({ cls := "FairHouse$Organ", name := "spin", desc := "()LFairHouse$Spin;" } : Jvm.MethodName)) ∈ lw_all := lw_g (lw_at lw_m6 82 rfl) rfl
theorem q1401 : (Jvm.Cond.publicMethod ({ cls := "FairHouse$Organ", name := "spin", desc := "()LFairHouse$Spin;" } : Jvm.MethodName)) ∈ lw_tbl := lw_at lw_m6 83 rfl
theorem q1402 : (Jvm.Cond.code ({ cls := "FairHouse$Organ", name := "spin", desc := "()LFairHouse$Spin;" } : Jvm.MethodName) prog_21_method_2_code (1 : Nat) (Option.some (Jvm.ClassFile.FieldType.object "FairHouse$Spin"))) ∈ lw_all := lw_g (lw_at lw_m6 84 rfl) rfl
theorem q1813 : (Jvm.Cond.castable "FairHouse$Organ" "FairHouse$Sounds") ∈ lw_tbl := lw_at lw_m8 15 rfl
theorem q1814 : (Jvm.Cond.selects "FairHouse$Organ" ({ cls := "FairHouse$Sounds", name := "voice", desc := "()LFairHouse$Voice;" } : Jvm.MethodName) ({ cls := "FairHouse$Organ", name := "voice", desc := "()LFairHouse$Voice;" } : Jvm.MethodName)) ∈ lw_all := lw_g (lw_at lw_m8 16 rfl) rfl
theorem q1815 : (Jvm.Cond.unhidden "FairHouse$Organ" "voice" "()LFairHouse$Voice;") ∈ lw_tbl := lw_at lw_m8 17 rfl
theorem q1816 : (Jvm.Cond.instanceMethod ({ cls := "FairHouse$Organ", name := "voice", desc := "()LFairHouse$Voice;" } : Jvm.MethodName)) ∈ lw_all := lw_g (lw_at lw_m8 18 rfl) rfl
theorem q1817 : (Jvm.Cond.publicMethod ({ cls := "FairHouse$Organ", name := "voice", desc := "()LFairHouse$Voice;" } : Jvm.MethodName)) ∈ lw_tbl := lw_at lw_m8 19 rfl
theorem q1818 : (Jvm.Cond.code ({ cls := "FairHouse$Organ", name := "voice", desc := "()LFairHouse$Voice;" } : Jvm.MethodName) prog_21_method_3_code (1 : Nat) (Option.some (Jvm.ClassFile.FieldType.object "FairHouse$Voice"))) ∈ lw_all := lw_g (lw_at lw_m8 20 rfl) rfl
theorem q2108 : (Jvm.Cond.unhidden "FairHouse$Organ" "isSoft" "()Z") ∈ lw_tbl := lw_at lw_m9 70 rfl
theorem q2110 : (Jvm.Cond.castable "FairHouse$Organ" "FairHouse$Machine") ∈ lw_tbl := lw_at lw_m9 72 rfl
theorem q2111 : (Jvm.Cond.selects "FairHouse$Organ" ({ cls := "FairHouse$Machine", name := "isCalm", desc := "()Z" } : Jvm.MethodName) ({ cls := "FairHouse$Organ", name := "isCalm", desc := "()Z" } : Jvm.MethodName)) ∈ lw_all := lw_g (lw_at lw_m9 73 rfl) rfl
theorem q2112 : (Jvm.Cond.unhidden "FairHouse$Organ" "isCalm" "()Z") ∈ lw_tbl := lw_at lw_m9 74 rfl
theorem q2113 : (Jvm.Cond.instanceMethod ({ cls := "FairHouse$Organ", name := "isCalm", desc := "()Z" } : Jvm.MethodName)) ∈ lw_all := lw_g (lw_at lw_m9 75 rfl) rfl
theorem q2114 : (Jvm.Cond.publicMethod ({ cls := "FairHouse$Organ", name := "isCalm", desc := "()Z" } : Jvm.MethodName)) ∈ lw_tbl := lw_at lw_m9 76 rfl
theorem q2115 : (Jvm.Cond.code ({ cls := "FairHouse$Organ", name := "isCalm", desc := "()Z" } : Jvm.MethodName) prog_21_method_6_code (1 : Nat) (Option.some Jvm.ClassFile.FieldType.boolean)) ∈ lw_all := lw_g (lw_at lw_m9 77 rfl) rfl
theorem q2126 : (Jvm.Cond.unhidden "FairHouse$Organ" "isStill" "()Z") ∈ lw_tbl := lw_at lw_m9 88 rfl
theorem q2259 : (Jvm.Cond.selects "FairHouse$Organ" ({ cls := "FairHouse$Machine", name := "ease", desc := "()V" } : Jvm.MethodName) ({ cls := "FairHouse$Organ", name := "ease", desc := "()V" } : Jvm.MethodName)) ∈ lw_all := lw_g (lw_at lw_m9 221 rfl) rfl
theorem q2260 : (Jvm.Cond.unhidden "FairHouse$Organ" "ease" "()V") ∈ lw_tbl := lw_at lw_m9 222 rfl
theorem q2261 : (Jvm.Cond.instanceMethod ({ cls := "FairHouse$Organ", name := "ease", desc := "()V" } : Jvm.MethodName)) ∈ lw_all := lw_g (lw_at lw_m9 223 rfl) rfl
theorem q2262 : (Jvm.Cond.publicMethod ({ cls := "FairHouse$Organ", name := "ease", desc := "()V" } : Jvm.MethodName)) ∈ lw_tbl := lw_at lw_m9 224 rfl
theorem q2263 : (Jvm.Cond.code ({ cls := "FairHouse$Organ", name := "ease", desc := "()V" } : Jvm.MethodName) prog_21_method_7_code (2 : Nat) (Option.none : Option Jvm.ClassFile.FieldType)) ∈ lw_all := lw_g (lw_at lw_m9 225 rfl) rfl
theorem q2264 : (Jvm.Cond.interfaceEntry "FairHouse$Organ" (45 : Nat)) ∈ lw_tbl := lw_at lw_m9 226 rfl
theorem q2265 : (Jvm.Cond.methodLink "FairHouse$Organ" (45 : Nat) ({ cls := "FairHouse$Turns", name := "turn", desc := "()V" } : Jvm.MethodName)) ∈ lw_all := lw_g (lw_at lw_m9 227 rfl) rfl
theorem q2268 : (Jvm.Cond.unhidden "FairHouse$Organ" "turn" "()V") ∈ lw_tbl := lw_at lw_m9 230 rfl
theorem q2280 : (Jvm.Cond.methodLink "FairHouse$Organ" (48 : Nat) ({ cls := "FairHouse$Spin", name := "size", desc := "()I" } : Jvm.MethodName)) ∈ lw_all := lw_g (lw_at lw_m10 2 rfl) rfl
theorem q2284 : (Jvm.Cond.methodLink "FairHouse$Organ" (51 : Nat) ({ cls := "java/lang/Math", name := "min", desc := "(II)I" } : Jvm.MethodName)) ∈ lw_all := lw_g (lw_at lw_m10 6 rfl) rfl
theorem q2397 : (Jvm.Cond.unhidden "FairHouse$Organ" "hiss" "()I") ∈ lw_tbl := lw_at lw_m10 119 rfl
theorem q2408 : (Jvm.Cond.selects "FairHouse$Organ" ({ cls := "FairHouse$Machine", name := "draw", desc := "()I" } : Jvm.MethodName) ({ cls := "FairHouse$Organ", name := "draw", desc := "()I" } : Jvm.MethodName)) ∈ lw_all := lw_g (lw_at lw_m10 130 rfl) rfl
theorem q2409 : (Jvm.Cond.unhidden "FairHouse$Organ" "draw" "()I") ∈ lw_tbl := lw_at lw_m10 131 rfl
theorem q2410 : (Jvm.Cond.instanceMethod ({ cls := "FairHouse$Organ", name := "draw", desc := "()I" } : Jvm.MethodName)) ∈ lw_all := lw_g (lw_at lw_m10 132 rfl) rfl
theorem q2411 : (Jvm.Cond.publicMethod ({ cls := "FairHouse$Organ", name := "draw", desc := "()I" } : Jvm.MethodName)) ∈ lw_tbl := lw_at lw_m10 133 rfl
theorem q2412 : (Jvm.Cond.code ({ cls := "FairHouse$Organ", name := "draw", desc := "()I" } : Jvm.MethodName) prog_21_method_4_code (3 : Nat) (Option.some Jvm.ClassFile.FieldType.int)) ∈ lw_all := lw_g (lw_at lw_m10 134 rfl) rfl
theorem q2413 : (Jvm.Cond.interfaceEntry "FairHouse$Organ" (27 : Nat)) ∈ lw_tbl := lw_at lw_m10 135 rfl
theorem q2414 : (Jvm.Cond.methodLink "FairHouse$Organ" (27 : Nat) ({ cls := "FairHouse$Turns", name := "pull", desc := "()I" } : Jvm.MethodName)) ∈ lw_all := lw_g (lw_at lw_m10 136 rfl) rfl
theorem q2417 : (Jvm.Cond.unhidden "FairHouse$Organ" "pull" "()I") ∈ lw_tbl := lw_at lw_m10 139 rfl
theorem q2426 : (Jvm.Cond.interfaceEntry "FairHouse$Organ" (33 : Nat)) ∈ lw_tbl := lw_at lw_m10 148 rfl
theorem q2427 : (Jvm.Cond.methodLink "FairHouse$Organ" (33 : Nat) ({ cls := "FairHouse$Sounds", name := "hiss", desc := "()I" } : Jvm.MethodName)) ∈ lw_all := lw_g (lw_at lw_m10 149 rfl) rfl
theorem q2492 : (Jvm.Cond.unhidden "FairHouse$Organ" "limit" "()I") ∈ lw_tbl := lw_at lw_m10 214 rfl
theorem q2535 : (Jvm.Cond.unhidden "FairHouse$Organ" "tear" "()I") ∈ lw_tbl := lw_at lw_m11 17 rfl
theorem q2609 : (Jvm.Cond.selects "FairHouse$Organ" ({ cls := "FairHouse$Machine", name := "noise", desc := "()I" } : Jvm.MethodName) ({ cls := "FairHouse$Organ", name := "noise", desc := "()I" } : Jvm.MethodName)) ∈ lw_all := lw_g (lw_at lw_m11 91 rfl) rfl
theorem q2610 : (Jvm.Cond.unhidden "FairHouse$Organ" "noise" "()I") ∈ lw_tbl := lw_at lw_m11 92 rfl
theorem q2611 : (Jvm.Cond.instanceMethod ({ cls := "FairHouse$Organ", name := "noise", desc := "()I" } : Jvm.MethodName)) ∈ lw_all := lw_g (lw_at lw_m11 93 rfl) rfl
theorem q2612 : (Jvm.Cond.publicMethod ({ cls := "FairHouse$Organ", name := "noise", desc := "()I" } : Jvm.MethodName)) ∈ lw_tbl := lw_at lw_m11 94 rfl
theorem q2613 : (Jvm.Cond.code ({ cls := "FairHouse$Organ", name := "noise", desc := "()I" } : Jvm.MethodName) prog_21_method_5_code (1 : Nat) (Option.some Jvm.ClassFile.FieldType.int)) ∈ lw_all := lw_g (lw_at lw_m11 95 rfl) rfl
theorem q2623 : (Jvm.Cond.unhidden "FairHouse$Organ" "hum" "()I") ∈ lw_tbl := lw_at lw_m11 105 rfl
theorem q3396 : (Jvm.Cond.castable "FairHouse$Organ" "FairHouse$Ride") ∈ lw_tbl := lw_at lw_m14 158 rfl
theorem q3428 : (Jvm.Cond.castable "FairHouse$Organ" "java/lang/Object") ∈ lw_tbl := lw_at lw_m14 190 rfl
theorem q157 : (Jvm.Cond.initialized "FairHouse$Voice") ∈ lw_all := lw_g (lw_at lw_m1 39 rfl) rfl
theorem q970 : (Jvm.Cond.selects "FairHouse$Voice" ({ cls := "java/lang/Object", name := "getClass", desc := "()Ljava/lang/Class;" } : Jvm.MethodName) ({ cls := "java/lang/Object", name := "getClass", desc := "()Ljava/lang/Class;" } : Jvm.MethodName)) ∈ lw_all := lw_g (lw_at lw_m4 132 rfl) rfl
theorem q1235 : (Jvm.Cond.instantiable "FairHouse$Voice" (1 : Nat)) ∈ lw_all := lw_g (lw_at lw_m5 157 rfl) rfl
theorem q1237 : (Jvm.Cond.instanceMethod ({ cls := "FairHouse$Voice", name := "<init>", desc := "()V" } : Jvm.MethodName)) ∈ lw_all := lw_g (lw_at lw_m5 159 rfl) rfl
theorem q1238 : (Jvm.Cond.code ({ cls := "FairHouse$Voice", name := "<init>", desc := "()V" } : Jvm.MethodName) prog_38_method_1_code (1 : Nat) (Option.none : Option Jvm.ClassFile.FieldType)) ∈ lw_all := lw_g (lw_at lw_m5 160 rfl) rfl
theorem q1239 : (Jvm.Cond.methodLink "FairHouse$Voice" (1 : Nat) ({ cls := "java/lang/Object", name := "<init>", desc := "()V" } : Jvm.MethodName)) ∈ lw_all := lw_g (lw_at lw_m5 161 rfl) rfl
theorem q1246 : (Jvm.Cond.lays "FairHouse$Voice" "FairHouse$Voice" "volume" "I") ∈ lw_all := lw_g (lw_at lw_m5 168 rfl) rfl
theorem q1247 : (Jvm.Cond.soleField "FairHouse$Voice" "volume") ∈ lw_all := lw_g (lw_at lw_m5 169 rfl) rfl
theorem q1248 : (Jvm.Cond.superclass "FairHouse$Voice" "java/lang/Object") ∈ lw_all := lw_g (lw_at lw_m5 170 rfl) rfl
theorem q3429 : (Jvm.Cond.castable "FairHouse$Voice" "java/lang/Object") ∈ lw_tbl := lw_at lw_m14 191 rfl
theorem q158 : (Jvm.Cond.initialized "FairHouse$Arch") ∈ lw_all := lw_g (lw_at lw_m1 40 rfl) rfl
theorem q945 : (Jvm.Cond.selects "FairHouse$Arch" ({ cls := "java/lang/Object", name := "getClass", desc := "()Ljava/lang/Class;" } : Jvm.MethodName) ({ cls := "java/lang/Object", name := "getClass", desc := "()Ljava/lang/Class;" } : Jvm.MethodName)) ∈ lw_all := lw_g (lw_at lw_m4 107 rfl) rfl
theorem q1262 : (Jvm.Cond.instantiable "FairHouse$Arch" (4 : Nat)) ∈ lw_all := lw_g (lw_at lw_m5 184 rfl) rfl
theorem q1264 : (Jvm.Cond.instanceMethod ({ cls := "FairHouse$Arch", name := "<init>", desc := "([I)V" } : Jvm.MethodName)) ∈ lw_all := lw_g (lw_at lw_m5 186 rfl) rfl
theorem q1265 : (Jvm.Cond.code ({ cls := "FairHouse$Arch", name := "<init>", desc := "([I)V" } : Jvm.MethodName) prog_3_method_1_code (2 : Nat) (Option.none : Option Jvm.ClassFile.FieldType)) ∈ lw_all := lw_g (lw_at lw_m5 187 rfl) rfl
theorem q1266 : (Jvm.Cond.methodLink "FairHouse$Arch" (1 : Nat) ({ cls := "FairHouse$Ride", name := "<init>", desc := "(I)V" } : Jvm.MethodName)) ∈ lw_all := lw_g (lw_at lw_m5 188 rfl) rfl
theorem q1267 : (Jvm.Cond.classLink "FairHouse$Arch" (7 : Nat) "FairHouse$Light") ∈ lw_all := lw_g (lw_at lw_m5 189 rfl) rfl
theorem q1269 : (Jvm.Cond.methodLink "FairHouse$Arch" (9 : Nat) ({ cls := "FairHouse$Light", name := "<init>", desc := "(I)V" } : Jvm.MethodName)) ∈ lw_all := lw_g (lw_at lw_m5 191 rfl) rfl
theorem q1284 : (Jvm.Cond.fieldLink "FairHouse$Arch" (10 : Nat) "FairHouse$Arch" "light" "LFairHouse$Light;") ∈ lw_all := lw_g (lw_at lw_m5 206 rfl) rfl
theorem q1285 : (Jvm.Cond.laysFinal "FairHouse$Arch" "FairHouse$Arch" "light" "LFairHouse$Light;") ∈ lw_all := lw_g (lw_at lw_m5 207 rfl) rfl
theorem q1286 : (Jvm.Cond.soleField "FairHouse$Arch" "light") ∈ lw_all := lw_g (lw_at lw_m5 208 rfl) rfl
theorem q1287 : (Jvm.Cond.laysFinal "FairHouse$Arch" "FairHouse$Ride" "kind" "I") ∈ lw_all := lw_g (lw_at lw_m5 209 rfl) rfl
theorem q1288 : (Jvm.Cond.laysFinal "FairHouse$Arch" "FairHouse$Ride" "script" "LFairHouse$Script;") ∈ lw_all := lw_g (lw_at lw_m5 210 rfl) rfl
theorem q1289 : (Jvm.Cond.lays "FairHouse$Arch" "FairHouse$Ride" "wear" "I") ∈ lw_all := lw_g (lw_at lw_m5 211 rfl) rfl
theorem q1290 : (Jvm.Cond.superclass "FairHouse$Arch" "FairHouse$Ride") ∈ lw_all := lw_g (lw_at lw_m5 212 rfl) rfl
theorem q1772 : (Jvm.Cond.castable "FairHouse$Arch" "FairHouse$Lamps") ∈ lw_tbl := lw_at lw_m7 214 rfl
theorem q1773 : (Jvm.Cond.selects "FairHouse$Arch" ({ cls := "FairHouse$Lamps", name := "light", desc := "()LFairHouse$Light;" } : Jvm.MethodName) ({ cls := "FairHouse$Arch", name := "light", desc := "()LFairHouse$Light;" } : Jvm.MethodName)) ∈ lw_all := lw_g (lw_at lw_m7 215 rfl) rfl
theorem q1774 : (Jvm.Cond.unhidden "FairHouse$Arch" "light" "()LFairHouse$Light;") ∈ lw_tbl := lw_at lw_m7 216 rfl
theorem q1775 : (Jvm.Cond.instanceMethod ({ cls := "FairHouse$Arch", name := "light", desc := "()LFairHouse$Light;" } : Jvm.MethodName)) ∈ lw_all := lw_g (lw_at lw_m7 217 rfl) rfl
theorem q1776 : (Jvm.Cond.publicMethod ({ cls := "FairHouse$Arch", name := "light", desc := "()LFairHouse$Light;" } : Jvm.MethodName)) ∈ lw_tbl := lw_at lw_m7 218 rfl
theorem q1777 : (Jvm.Cond.code ({ cls := "FairHouse$Arch", name := "light", desc := "()LFairHouse$Light;" } : Jvm.MethodName) prog_3_method_2_code (1 : Nat) (Option.some (Jvm.ClassFile.FieldType.object "FairHouse$Light"))) ∈ lw_all := lw_g (lw_at lw_m7 219 rfl) rfl
theorem q2067 : (Jvm.Cond.castable "FairHouse$Arch" "FairHouse$Machine") ∈ lw_tbl := lw_at lw_m9 29 rfl
theorem q2068 : (Jvm.Cond.unhidden "FairHouse$Arch" "isCalm" "()Z") ∈ lw_tbl := lw_at lw_m9 30 rfl
theorem q2245 : (Jvm.Cond.unhidden "FairHouse$Arch" "ease" "()V") ∈ lw_tbl := lw_at lw_m9 207 rfl
theorem q2353 : (Jvm.Cond.unhidden "FairHouse$Arch" "draw" "()I") ∈ lw_tbl := lw_at lw_m10 75 rfl
theorem q2361 : (Jvm.Cond.unhidden "FairHouse$Arch" "burn" "()I") ∈ lw_tbl := lw_at lw_m10 83 rfl
theorem q2481 : (Jvm.Cond.unhidden "FairHouse$Arch" "limit" "()I") ∈ lw_tbl := lw_at lw_m10 203 rfl
theorem q2513 : (Jvm.Cond.unhidden "FairHouse$Arch" "tear" "()I") ∈ lw_tbl := lw_at lw_m10 235 rfl
theorem q2583 : (Jvm.Cond.unhidden "FairHouse$Arch" "noise" "()I") ∈ lw_tbl := lw_at lw_m11 65 rfl
theorem q3393 : (Jvm.Cond.castable "FairHouse$Arch" "FairHouse$Ride") ∈ lw_tbl := lw_at lw_m14 155 rfl
theorem q3430 : (Jvm.Cond.castable "FairHouse$Arch" "java/lang/Object") ∈ lw_tbl := lw_at lw_m14 192 rfl
theorem q159 : (Jvm.Cond.initialized "FairHouse$Light") ∈ lw_all := lw_g (lw_at lw_m1 41 rfl) rfl
theorem q953 : (Jvm.Cond.selects "FairHouse$Light" ({ cls := "java/lang/Object", name := "getClass", desc := "()Ljava/lang/Class;" } : Jvm.MethodName) ({ cls := "java/lang/Object", name := "getClass", desc := "()Ljava/lang/Class;" } : Jvm.MethodName)) ∈ lw_all := lw_g (lw_at lw_m4 115 rfl) rfl
theorem q1268 : (Jvm.Cond.instantiable "FairHouse$Light" (2 : Nat)) ∈ lw_all := lw_g (lw_at lw_m5 190 rfl) rfl
theorem q1270 : (Jvm.Cond.instanceMethod ({ cls := "FairHouse$Light", name := "<init>", desc := "(I)V" } : Jvm.MethodName)) ∈ lw_all := lw_g (lw_at lw_m5 192 rfl) rfl
theorem q1271 : (Jvm.Cond.code ({ cls := "FairHouse$Light", name := "<init>", desc := "(I)V" } : Jvm.MethodName) prog_16_method_1_code (2 : Nat) (Option.none : Option Jvm.ClassFile.FieldType)) ∈ lw_all := lw_g (lw_at lw_m5 193 rfl) rfl
theorem q1272 : (Jvm.Cond.methodLink "FairHouse$Light" (1 : Nat) ({ cls := "java/lang/Object", name := "<init>", desc := "()V" } : Jvm.MethodName)) ∈ lw_all := lw_g (lw_at lw_m5 194 rfl) rfl
theorem q1273 : (Jvm.Cond.fieldLink "FairHouse$Light" (7 : Nat) "FairHouse$Light" "watts" "I") ∈ lw_all := lw_g (lw_at lw_m5 195 rfl) rfl
theorem q1279 : (Jvm.Cond.laysFinal "FairHouse$Light" "FairHouse$Light" "watts" "I") ∈ lw_all := lw_g (lw_at lw_m5 201 rfl) rfl
theorem q1280 : (Jvm.Cond.soleField "FairHouse$Light" "watts") ∈ lw_all := lw_g (lw_at lw_m5 202 rfl) rfl
theorem q1281 : (Jvm.Cond.lays "FairHouse$Light" "FairHouse$Light" "glow" "I") ∈ lw_all := lw_g (lw_at lw_m5 203 rfl) rfl
theorem q1282 : (Jvm.Cond.soleField "FairHouse$Light" "glow") ∈ lw_all := lw_g (lw_at lw_m5 204 rfl) rfl
theorem q1283 : (Jvm.Cond.superclass "FairHouse$Light" "java/lang/Object") ∈ lw_all := lw_g (lw_at lw_m5 205 rfl) rfl
theorem q3431 : (Jvm.Cond.castable "FairHouse$Light" "java/lang/Object") ∈ lw_tbl := lw_at lw_m14 193 rfl
theorem q160 : (Jvm.Cond.initialized "FairHouse$Comet") ∈ lw_all := lw_g (lw_at lw_m1 42 rfl) rfl
theorem q948 : (Jvm.Cond.selects "FairHouse$Comet" ({ cls := "java/lang/Object", name := "getClass", desc := "()Ljava/lang/Class;" } : Jvm.MethodName) ({ cls := "java/lang/Object", name := "getClass", desc := "()Ljava/lang/Class;" } : Jvm.MethodName)) ∈ lw_all := lw_g (lw_at lw_m4 110 rfl) rfl
theorem q1169 : (Jvm.Cond.fieldLinkNest "FairHouse$Comet" (70 : Nat) "FairHouse$Hoist" "pace" "I" "FairHouse") ∈ lw_tbl := lw_at lw_m5 91 rfl
theorem q1243 : (Jvm.Cond.fieldLinkNest "FairHouse$Comet" (53 : Nat) "FairHouse$Voice" "volume" "I" "FairHouse") ∈ lw_tbl := lw_at lw_m5 165 rfl
theorem q1292 : (Jvm.Cond.instantiable "FairHouse$Comet" (6 : Nat)) ∈ lw_all := lw_g (lw_at lw_m5 214 rfl) rfl
theorem q1294 : (Jvm.Cond.instanceMethod ({ cls := "FairHouse$Comet", name := "<init>", desc := "([I)V" } : Jvm.MethodName)) ∈ lw_all := lw_g (lw_at lw_m5 216 rfl) rfl
theorem q1295 : (Jvm.Cond.code ({ cls := "FairHouse$Comet", name := "<init>", desc := "([I)V" } : Jvm.MethodName) prog_6_method_1_code (2 : Nat) (Option.none : Option Jvm.ClassFile.FieldType)) ∈ lw_all := lw_g (lw_at lw_m5 217 rfl) rfl
theorem q1296 : (Jvm.Cond.methodLink "FairHouse$Comet" (1 : Nat) ({ cls := "FairHouse$Ride", name := "<init>", desc := "(I)V" } : Jvm.MethodName)) ∈ lw_all := lw_g (lw_at lw_m5 218 rfl) rfl
theorem q1297 : (Jvm.Cond.classLink "FairHouse$Comet" (7 : Nat) "FairHouse$Voice") ∈ lw_all := lw_g (lw_at lw_m5 219 rfl) rfl
theorem q1298 : (Jvm.Cond.methodLinkNest "FairHouse$Comet" (9 : Nat) ({ cls := "FairHouse$Voice", name := "<init>", desc := "()V" } : Jvm.MethodName) "FairHouse") ∈ lw_tbl := lw_at lw_m5 220 rfl
theorem q1299 : (Jvm.Cond.classLink "FairHouse$Comet" (18 : Nat) "FairHouse$Hoist") ∈ lw_all := lw_g (lw_at lw_m5 221 rfl) rfl
theorem q1300 : (Jvm.Cond.methodLink "FairHouse$Comet" (20 : Nat) ({ cls := "FairHouse$Hoist", name := "<init>", desc := "(II)V" } : Jvm.MethodName)) ∈ lw_all := lw_g (lw_at lw_m5 222 rfl) rfl
theorem q1301 : (Jvm.Cond.classLink "FairHouse$Comet" (27 : Nat) "FairHouse$Light") ∈ lw_all := lw_g (lw_at lw_m5 223 rfl) rfl
theorem q1302 : (Jvm.Cond.methodLink "FairHouse$Comet" (29 : Nat) ({ cls := "FairHouse$Light", name := "<init>", desc := "(I)V" } : Jvm.MethodName)) ∈ lw_all := lw_g (lw_at lw_m5 224 rfl) rfl
theorem q1303 : (Jvm.Cond.fieldLink "FairHouse$Comet" (23 : Nat) "FairHouse$Comet" "hoist" "LFairHouse$Hoist;") ∈ lw_all := lw_g (lw_at lw_m5 225 rfl) rfl
theorem q1304 : (Jvm.Cond.fieldLink "FairHouse$Comet" (30 : Nat) "FairHouse$Comet" "light" "LFairHouse$Light;") ∈ lw_all := lw_g (lw_at lw_m5 226 rfl) rfl
theorem q1305 : (Jvm.Cond.fieldLink "FairHouse$Comet" (12 : Nat) "FairHouse$Comet" "voice" "LFairHouse$Voice;") ∈ lw_all := lw_g (lw_at lw_m5 227 rfl) rfl
theorem q1306 : (Jvm.Cond.laysFinal "FairHouse$Comet" "FairHouse$Comet" "hoist" "LFairHouse$Hoist;") ∈ lw_all := lw_g (lw_at lw_m5 228 rfl) rfl
theorem q1307 : (Jvm.Cond.soleField "FairHouse$Comet" "hoist") ∈ lw_all := lw_g (lw_at lw_m5 229 rfl) rfl
theorem q1308 : (Jvm.Cond.laysFinal "FairHouse$Comet" "FairHouse$Comet" "light" "LFairHouse$Light;") ∈ lw_all := lw_g (lw_at lw_m5 230 rfl) rfl
theorem q1309 : (Jvm.Cond.soleField "FairHouse$Comet" "light") ∈ lw_all := lw_g (lw_at lw_m5 231 rfl) rfl
theorem q1310 : (Jvm.Cond.laysFinal "FairHouse$Comet" "FairHouse$Comet" "voice" "LFairHouse$Voice;") ∈ lw_all := lw_g (lw_at lw_m5 232 rfl) rfl
theorem q1311 : (Jvm.Cond.soleField "FairHouse$Comet" "voice") ∈ lw_all := lw_g (lw_at lw_m5 233 rfl) rfl
theorem q1312 : (Jvm.Cond.laysFinal "FairHouse$Comet" "FairHouse$Ride" "kind" "I") ∈ lw_all := lw_g (lw_at lw_m5 234 rfl) rfl
theorem q1313 : (Jvm.Cond.laysFinal "FairHouse$Comet" "FairHouse$Ride" "script" "LFairHouse$Script;") ∈ lw_all := lw_g (lw_at lw_m5 235 rfl) rfl
theorem q1314 : (Jvm.Cond.lays "FairHouse$Comet" "FairHouse$Ride" "wear" "I") ∈ lw_all := lw_g (lw_at lw_m5 236 rfl) rfl
theorem q1315 : (Jvm.Cond.superclass "FairHouse$Comet" "FairHouse$Ride") ∈ lw_all := lw_g (lw_at lw_m5 237 rfl) rfl
theorem q1740 : (Jvm.Cond.castable "FairHouse$Comet" "FairHouse$Lifts") ∈ lw_tbl := lw_at lw_m7 182 rfl
theorem q1741 : (Jvm.Cond.selects "FairHouse$Comet" ({ cls := "FairHouse$Lifts", name := "hoist", desc := "()LFairHouse$Hoist;" } : Jvm.MethodName) ({ cls := "FairHouse$Comet", name := "hoist", desc := "()LFairHouse$Hoist;" } : Jvm.MethodName)) ∈ lw_all := lw_g (lw_at lw_m7 183 rfl) rfl
theorem q1742 : (Jvm.Cond.unhidden "FairHouse$Comet" "hoist" "()LFairHouse$Hoist;") ∈ lw_tbl := lw_at lw_m7 184 rfl
theorem q1743 : (Jvm.Cond.instanceMethod ({ cls := "FairHouse$Comet", name := "hoist", desc := "()LFairHouse$Hoist;" } : Jvm.MethodName)) ∈ lw_all := lw_g (lw_at lw_m7 185 rfl) rfl
theorem q1744 : (Jvm.Cond.publicMethod ({ cls := "FairHouse$Comet", name := "hoist", desc := "()LFairHouse$Hoist;" } : Jvm.MethodName)) ∈ lw_tbl := lw_at lw_m7 186 rfl
theorem q1745 : (Jvm.Cond.code ({ cls := "FairHouse$Comet", name := "hoist", desc := "()LFairHouse$Hoist;" } : Jvm.MethodName) prog_6_method_2_code (1 : Nat) (Option.some (Jvm.ClassFile.FieldType.object "FairHouse$Hoist"))) ∈ lw_all := lw_g (lw_at lw_m7 187 rfl) rfl
theorem q1778 : (Jvm.Cond.castable "FairHouse$Comet" "FairHouse$Lamps") ∈ lw_tbl := lw_at lw_m7 220 rfl
theorem q1779 : (Jvm.Cond.selects "FairHouse$Comet" ({ cls := "FairHouse$Lamps", name := "light", desc := "()LFairHouse$Light;" } : Jvm.MethodName) ({ cls := "FairHouse$Comet", name := "light", desc := "()LFairHouse$Light;" } : Jvm.MethodName)) ∈ lw_all := lw_g (lw_at lw_m7 221 rfl) rfl
theorem q1780 : (Jvm.Cond.unhidden "FairHouse$Comet" "light" "()LFairHouse$Light;") ∈ lw_tbl := lw_at lw_m7 222 rfl
theorem q1781 : (Jvm.Cond.instanceMethod ({ cls := "FairHouse$Comet", name := "light", desc := "()LFairHouse$Light;" } : Jvm.MethodName)) ∈ lw_all := lw_g (lw_at lw_m7 223 rfl) rfl
theorem q1782 : (Jvm.Cond.publicMethod ({ cls := "FairHouse$Comet", name := "light", desc := "()LFairHouse$Light;" } : Jvm.MethodName)) ∈ lw_tbl := lw_at lw_m7 224 rfl
theorem q1783 : (Jvm.Cond.code ({ cls := "FairHouse$Comet", name := "light", desc := "()LFairHouse$Light;" } : Jvm.MethodName) prog_6_method_3_code (1 : Nat) (Option.some (Jvm.ClassFile.FieldType.object "FairHouse$Light"))) ∈ lw_all := lw_g (lw_at lw_m7 225 rfl) rfl
theorem q1801 : (Jvm.Cond.castable "FairHouse$Comet" "FairHouse$Sounds") ∈ lw_tbl := lw_at lw_m8 3 rfl
theorem q1802 : (Jvm.Cond.selects "FairHouse$Comet" ({ cls := "FairHouse$Sounds", name := "voice", desc := "()LFairHouse$Voice;" } : Jvm.MethodName) ({ cls := "FairHouse$Comet", name := "voice", desc := "()LFairHouse$Voice;" } : Jvm.MethodName)) ∈ lw_all := lw_g (lw_at lw_m8 4 rfl) rfl
theorem q1803 : (Jvm.Cond.unhidden "FairHouse$Comet" "voice" "()LFairHouse$Voice;") ∈ lw_tbl := lw_at lw_m8 5 rfl
theorem q1804 : (Jvm.Cond.instanceMethod ({ cls := "FairHouse$Comet", name := "voice", desc := "()LFairHouse$Voice;" } : Jvm.MethodName)) ∈ lw_all := lw_g (lw_at lw_m8 6 rfl) rfl
theorem q1805 : (Jvm.Cond.publicMethod ({ cls := "FairHouse$Comet", name := "voice", desc := "()LFairHouse$Voice;" } : Jvm.MethodName)) ∈ lw_tbl := lw_at lw_m8 7 rfl
theorem q1806 : (Jvm.Cond.code ({ cls := "FairHouse$Comet", name := "voice", desc := "()LFairHouse$Voice;" } : Jvm.MethodName) prog_6_method_4_code (1 : Nat) (Option.some (Jvm.ClassFile.FieldType.object "FairHouse$Voice"))) ∈ lw_all := lw_g (lw_at lw_m8 8 rfl) rfl
theorem q2072 : (Jvm.Cond.castable "FairHouse$Comet" "FairHouse$Machine") ∈ lw_tbl := lw_at lw_m9 34 rfl
theorem q2073 : (Jvm.Cond.selects "FairHouse$Comet" ({ cls := "FairHouse$Machine", name := "isCalm", desc := "()Z" } : Jvm.MethodName) ({ cls := "FairHouse$Comet", name := "isCalm", desc := "()Z" } : Jvm.MethodName)) ∈ lw_all := lw_g (lw_at lw_m9 35 rfl) rfl
theorem q2074 : (Jvm.Cond.unhidden "FairHouse$Comet" "isCalm" "()Z") ∈ lw_tbl := lw_at lw_m9 36 rfl
theorem q2075 : (Jvm.Cond.instanceMethod ({ cls := "FairHouse$Comet", name := "isCalm", desc := "()Z" } : Jvm.MethodName)) ∈ lw_all := lw_g (lw_at lw_m9 37 rfl) rfl
theorem q2076 : (Jvm.Cond.publicMethod ({ cls := "FairHouse$Comet", name := "isCalm", desc := "()Z" } : Jvm.MethodName)) ∈ lw_tbl := lw_at lw_m9 38 rfl
theorem q2077 : (Jvm.Cond.code ({ cls := "FairHouse$Comet", name := "isCalm", desc := "()Z" } : Jvm.MethodName) prog_6_method_8_code (2 : Nat) (Option.some Jvm.ClassFile.FieldType.boolean)) ∈ lw_all := lw_g (lw_at lw_m9 39 rfl) rfl
theorem q2078 : (Jvm.Cond.interfaceEntry "FairHouse$Comet" (66 : Nat)) ∈ lw_tbl := lw_at lw_m9 40 rfl
theorem q2079 : (Jvm.Cond.methodLink "FairHouse$Comet" (66 : Nat) ({ cls := "FairHouse$Lifts", name := "isDown", desc := "()Z" } : Jvm.MethodName)) ∈ lw_all := lw_g (lw_at lw_m9 41 rfl) rfl
theorem q2082 : (Jvm.Cond.unhidden "FairHouse$Comet" "isDown" "()Z") ∈ lw_tbl := lw_at lw_m9 44 rfl
theorem q2101 : (Jvm.Cond.unhidden "FairHouse$Comet" "isSoft" "()Z") ∈ lw_tbl := lw_at lw_m9 63 rfl
theorem q2249 : (Jvm.Cond.selects "FairHouse$Comet" ({ cls := "FairHouse$Machine", name := "ease", desc := "()V" } : Jvm.MethodName) ({ cls := "FairHouse$Comet", name := "ease", desc := "()V" } : Jvm.MethodName)) ∈ lw_all := lw_g (lw_at lw_m9 211 rfl) rfl
theorem q2250 : (Jvm.Cond.unhidden "FairHouse$Comet" "ease" "()V") ∈ lw_tbl := lw_at lw_m9 212 rfl
theorem q2251 : (Jvm.Cond.instanceMethod ({ cls := "FairHouse$Comet", name := "ease", desc := "()V" } : Jvm.MethodName)) ∈ lw_all := lw_g (lw_at lw_m9 213 rfl) rfl
theorem q2252 : (Jvm.Cond.publicMethod ({ cls := "FairHouse$Comet", name := "ease", desc := "()V" } : Jvm.MethodName)) ∈ lw_tbl := lw_at lw_m9 214 rfl
theorem q2253 : (Jvm.Cond.code ({ cls := "FairHouse$Comet", name := "ease", desc := "()V" } : Jvm.MethodName) prog_6_method_9_code (1 : Nat) (Option.none : Option Jvm.ClassFile.FieldType)) ∈ lw_all := lw_g (lw_at lw_m9 215 rfl) rfl
theorem q2254 : (Jvm.Cond.methodLink "FairHouse$Comet" (73 : Nat) ({ cls := "FairHouse$Hoist", name := "near", desc := "(II)V" } : Jvm.MethodName)) ∈ lw_all := lw_g (lw_at lw_m9 216 rfl) rfl
theorem q2296 : (Jvm.Cond.unhidden "FairHouse$Comet" "rise" "()V") ∈ lw_tbl := lw_at lw_m10 18 rfl
theorem q2367 : (Jvm.Cond.unhidden "FairHouse$Comet" "burn" "()I") ∈ lw_tbl := lw_at lw_m10 89 rfl
theorem q2370 : (Jvm.Cond.selects "FairHouse$Comet" ({ cls := "FairHouse$Machine", name := "draw", desc := "()I" } : Jvm.MethodName) ({ cls := "FairHouse$Comet", name := "draw", desc := "()I" } : Jvm.MethodName)) ∈ lw_all := lw_g (lw_at lw_m10 92 rfl) rfl
theorem q2371 : (Jvm.Cond.unhidden "FairHouse$Comet" "draw" "()I") ∈ lw_tbl := lw_at lw_m10 93 rfl
theorem q2372 : (Jvm.Cond.instanceMethod ({ cls := "FairHouse$Comet", name := "draw", desc := "()I" } : Jvm.MethodName)) ∈ lw_all := lw_g (lw_at lw_m10 94 rfl) rfl
theorem q2373 : (Jvm.Cond.publicMethod ({ cls := "FairHouse$Comet", name := "draw", desc := "()I" } : Jvm.MethodName)) ∈ lw_tbl := lw_at lw_m10 95 rfl
theorem q2374 : (Jvm.Cond.code ({ cls := "FairHouse$Comet", name := "draw", desc := "()I" } : Jvm.MethodName) prog_6_method_5_code (4 : Nat) (Option.some Jvm.ClassFile.FieldType.int)) ∈ lw_all := lw_g (lw_at lw_m10 96 rfl) rfl
theorem q2375 : (Jvm.Cond.interfaceEntry "FairHouse$Comet" (34 : Nat)) ∈ lw_tbl := lw_at lw_m10 97 rfl
theorem q2376 : (Jvm.Cond.methodLink "FairHouse$Comet" (34 : Nat) ({ cls := "FairHouse$Lifts", name := "heave", desc := "()I" } : Jvm.MethodName)) ∈ lw_all := lw_g (lw_at lw_m10 98 rfl) rfl
theorem q2379 : (Jvm.Cond.unhidden "FairHouse$Comet" "heave" "()I") ∈ lw_tbl := lw_at lw_m10 101 rfl
theorem q2386 : (Jvm.Cond.interfaceEntry "FairHouse$Comet" (40 : Nat)) ∈ lw_tbl := lw_at lw_m10 108 rfl
theorem q2387 : (Jvm.Cond.methodLink "FairHouse$Comet" (40 : Nat) ({ cls := "FairHouse$Lamps", name := "burn", desc := "()I" } : Jvm.MethodName)) ∈ lw_all := lw_g (lw_at lw_m10 109 rfl) rfl
theorem q2388 : (Jvm.Cond.interfaceEntry "FairHouse$Comet" (45 : Nat)) ∈ lw_tbl := lw_at lw_m10 110 rfl
theorem q2389 : (Jvm.Cond.methodLink "FairHouse$Comet" (45 : Nat) ({ cls := "FairHouse$Sounds", name := "hiss", desc := "()I" } : Jvm.MethodName)) ∈ lw_all := lw_g (lw_at lw_m10 111 rfl) rfl
theorem q2392 : (Jvm.Cond.unhidden "FairHouse$Comet" "hiss" "()I") ∈ lw_tbl := lw_at lw_m10 114 rfl
theorem q2486 : (Jvm.Cond.unhidden "FairHouse$Comet" "limit" "()I") ∈ lw_tbl := lw_at lw_m10 208 rfl
theorem q2517 : (Jvm.Cond.selects "FairHouse$Comet" ({ cls := "FairHouse$Machine", name := "tear", desc := "()I" } : Jvm.MethodName) ({ cls := "FairHouse$Comet", name := "tear", desc := "()I" } : Jvm.MethodName)) ∈ lw_all := lw_g (lw_at lw_m10 239 rfl) rfl
theorem q2518 : (Jvm.Cond.unhidden "FairHouse$Comet" "tear" "()I") ∈ lw_tbl := lw_at lw_m11 0 rfl
theorem q2519 : (Jvm.Cond.instanceMethod ({ cls := "FairHouse$Comet", name := "tear", desc := "()I" } : Jvm.MethodName)) ∈ lw_all := lw_g (lw_at lw_m11 1 rfl) rfl
theorem q2520 : (Jvm.Cond.publicMethod ({ cls := "FairHouse$Comet", name := "tear", desc := "()I" } : Jvm.MethodName)) ∈ lw_tbl := lw_at lw_m11 2 rfl
theorem q2521 : (Jvm.Cond.code ({ cls := "FairHouse$Comet", name := "tear", desc := "()I" } : Jvm.MethodName) prog_6_method_7_code (2 : Nat) (Option.some Jvm.ClassFile.FieldType.int)) ∈ lw_all := lw_g (lw_at lw_m11 3 rfl) rfl
theorem q2522 : (Jvm.Cond.interfaceEntry "FairHouse$Comet" (63 : Nat)) ∈ lw_tbl := lw_at lw_m11 4 rfl
theorem q2523 : (Jvm.Cond.methodLink "FairHouse$Comet" (63 : Nat) ({ cls := "FairHouse$Lifts", name := "rub", desc := "()I" } : Jvm.MethodName)) ∈ lw_all := lw_g (lw_at lw_m11 5 rfl) rfl
theorem q2526 : (Jvm.Cond.unhidden "FairHouse$Comet" "rub" "()I") ∈ lw_tbl := lw_at lw_m11 8 rfl
theorem q2587 : (Jvm.Cond.selects "FairHouse$Comet" ({ cls := "FairHouse$Machine", name := "noise", desc := "()I" } : Jvm.MethodName) ({ cls := "FairHouse$Comet", name := "noise", desc := "()I" } : Jvm.MethodName)) ∈ lw_all := lw_g (lw_at lw_m11 69 rfl) rfl
theorem q2588 : (Jvm.Cond.unhidden "FairHouse$Comet" "noise" "()I") ∈ lw_tbl := lw_at lw_m11 70 rfl
theorem q2589 : (Jvm.Cond.instanceMethod ({ cls := "FairHouse$Comet", name := "noise", desc := "()I" } : Jvm.MethodName)) ∈ lw_all := lw_g (lw_at lw_m11 71 rfl) rfl
theorem q2590 : (Jvm.Cond.publicMethod ({ cls := "FairHouse$Comet", name := "noise", desc := "()I" } : Jvm.MethodName)) ∈ lw_tbl := lw_at lw_m11 72 rfl
theorem q2591 : (Jvm.Cond.code ({ cls := "FairHouse$Comet", name := "noise", desc := "()I" } : Jvm.MethodName) prog_6_method_6_code (2 : Nat) (Option.some Jvm.ClassFile.FieldType.int)) ∈ lw_all := lw_g (lw_at lw_m11 73 rfl) rfl
theorem q2592 : (Jvm.Cond.interfaceEntry "FairHouse$Comet" (50 : Nat)) ∈ lw_tbl := lw_at lw_m11 74 rfl
theorem q2593 : (Jvm.Cond.methodLink "FairHouse$Comet" (50 : Nat) ({ cls := "FairHouse$Lifts", name := "creak", desc := "()I" } : Jvm.MethodName)) ∈ lw_all := lw_g (lw_at lw_m11 75 rfl) rfl
theorem q2596 : (Jvm.Cond.unhidden "FairHouse$Comet" "creak" "()I") ∈ lw_tbl := lw_at lw_m11 78 rfl
theorem q2603 : (Jvm.Cond.methodLink "FairHouse$Comet" (57 : Nat) ({ cls := "java/lang/Math", name := "max", desc := "(II)I" } : Jvm.MethodName)) ∈ lw_all := lw_g (lw_at lw_m11 85 rfl) rfl
theorem q3394 : (Jvm.Cond.castable "FairHouse$Comet" "FairHouse$Ride") ∈ lw_tbl := lw_at lw_m14 156 rfl
theorem q3432 : (Jvm.Cond.castable "FairHouse$Comet" "java/lang/Object") ∈ lw_tbl := lw_at lw_m14 194 rfl
theorem q161 : (Jvm.Cond.initialized "FairHouse$Ghost") ∈ lw_all := lw_g (lw_at lw_m1 43 rfl) rfl
theorem q950 : (Jvm.Cond.selects "FairHouse$Ghost" ({ cls := "java/lang/Object", name := "getClass", desc := "()Ljava/lang/Class;" } : Jvm.MethodName) ({ cls := "java/lang/Object", name := "getClass", desc := "()Ljava/lang/Class;" } : Jvm.MethodName)) ∈ lw_all := lw_g (lw_at lw_m4 112 rfl) rfl
theorem q1242 : (Jvm.Cond.fieldLinkNest "FairHouse$Ghost" (43 : Nat) "FairHouse$Voice" "volume" "I" "FairHouse") ∈ lw_tbl := lw_at lw_m5 164 rfl
theorem q1276 : (Jvm.Cond.fieldLinkNest "FairHouse$Ghost" (47 : Nat) "FairHouse$Light" "glow" "I" "FairHouse") ∈ lw_tbl := lw_at lw_m5 198 rfl
theorem q1317 : (Jvm.Cond.instantiable "FairHouse$Ghost" (6 : Nat)) ∈ lw_all := lw_g (lw_at lw_m5 239 rfl) rfl
theorem q1319 : (Jvm.Cond.instanceMethod ({ cls := "FairHouse$Ghost", name := "<init>", desc := "([I)V" } : Jvm.MethodName)) ∈ lw_all := lw_g (lw_at lw_m6 1 rfl) rfl
theorem q1320 : (Jvm.Cond.code ({ cls := "FairHouse$Ghost", name := "<init>", desc := "([I)V" } : Jvm.MethodName) prog_10_method_1_code (2 : Nat) (Option.none : Option Jvm.ClassFile.FieldType)) ∈ lw_all := lw_g (lw_at lw_m6 2 rfl) rfl
theorem q1321 : (Jvm.Cond.methodLink "FairHouse$Ghost" (1 : Nat) ({ cls := "FairHouse$Ride", name := "<init>", desc := "(I)V" } : Jvm.MethodName)) ∈ lw_all := lw_g (lw_at lw_m6 3 rfl) rfl
theorem q1322 : (Jvm.Cond.classLink "FairHouse$Ghost" (7 : Nat) "FairHouse$Voice") ∈ lw_all := lw_g (lw_at lw_m6 4 rfl) rfl
theorem q1323 : (Jvm.Cond.methodLinkNest "FairHouse$Ghost" (9 : Nat) ({ cls := "FairHouse$Voice", name := "<init>", desc := "()V" } : Jvm.MethodName) "FairHouse") ∈ lw_tbl := lw_at lw_m6 5 rfl
theorem q1324 : (Jvm.Cond.classLink "FairHouse$Ghost" (18 : Nat) "FairHouse$Bench") ∈ lw_all := lw_g (lw_at lw_m6 6 rfl) rfl
theorem q1325 : (Jvm.Cond.methodLink "FairHouse$Ghost" (20 : Nat) ({ cls := "FairHouse$Bench", name := "<init>", desc := "(I)V" } : Jvm.MethodName)) ∈ lw_all := lw_g (lw_at lw_m6 7 rfl) rfl
theorem q1326 : (Jvm.Cond.classLink "FairHouse$Ghost" (25 : Nat) "FairHouse$Light") ∈ lw_all := lw_g (lw_at lw_m6 8 rfl) rfl
theorem q1327 : (Jvm.Cond.methodLink "FairHouse$Ghost" (27 : Nat) ({ cls := "FairHouse$Light", name := "<init>", desc := "(I)V" } : Jvm.MethodName)) ∈ lw_all := lw_g (lw_at lw_m6 9 rfl) rfl
theorem q1328 : (Jvm.Cond.fieldLink "FairHouse$Ghost" (21 : Nat) "FairHouse$Ghost" "bench" "LFairHouse$Bench;") ∈ lw_all := lw_g (lw_at lw_m6 10 rfl) rfl
theorem q1329 : (Jvm.Cond.fieldLink "FairHouse$Ghost" (28 : Nat) "FairHouse$Ghost" "light" "LFairHouse$Light;") ∈ lw_all := lw_g (lw_at lw_m6 11 rfl) rfl
theorem q1330 : (Jvm.Cond.fieldLink "FairHouse$Ghost" (12 : Nat) "FairHouse$Ghost" "voice" "LFairHouse$Voice;") ∈ lw_all := lw_g (lw_at lw_m6 12 rfl) rfl
theorem q1331 : (Jvm.Cond.laysFinal "FairHouse$Ghost" "FairHouse$Ghost" "bench" "LFairHouse$Bench;") ∈ lw_all := lw_g (lw_at lw_m6 13 rfl) rfl
theorem q1332 : (Jvm.Cond.soleField "FairHouse$Ghost" "bench") ∈ lw_all := lw_g (lw_at lw_m6 14 rfl) rfl
theorem q1333 : (Jvm.Cond.laysFinal "FairHouse$Ghost" "FairHouse$Ghost" "light" "LFairHouse$Light;") ∈ lw_all := lw_g (lw_at lw_m6 15 rfl) rfl
theorem q1334 : (Jvm.Cond.soleField "FairHouse$Ghost" "light") ∈ lw_all := lw_g (lw_at lw_m6 16 rfl) rfl
theorem q1335 : (Jvm.Cond.laysFinal "FairHouse$Ghost" "FairHouse$Ghost" "voice" "LFairHouse$Voice;") ∈ lw_all := lw_g (lw_at lw_m6 17 rfl) rfl
theorem q1336 : (Jvm.Cond.soleField "FairHouse$Ghost" "voice") ∈ lw_all := lw_g (lw_at lw_m6 18 rfl) rfl
theorem q1337 : (Jvm.Cond.laysFinal "FairHouse$Ghost" "FairHouse$Ride" "kind" "I") ∈ lw_all := lw_g (lw_at lw_m6 19 rfl) rfl
theorem q1338 : (Jvm.Cond.laysFinal "FairHouse$Ghost" "FairHouse$Ride" "script" "LFairHouse$Script;") ∈ lw_all := lw_g (lw_at lw_m6 20 rfl) rfl
theorem q1339 : (Jvm.Cond.lays "FairHouse$Ghost" "FairHouse$Ride" "wear" "I") ∈ lw_all := lw_g (lw_at lw_m6 21 rfl) rfl
theorem q1340 : (Jvm.Cond.superclass "FairHouse$Ghost" "FairHouse$Ride") ∈ lw_all := lw_g (lw_at lw_m6 22 rfl) rfl
theorem q1784 : (Jvm.Cond.castable "FairHouse$Ghost" "FairHouse$Lamps") ∈ lw_tbl := lw_at lw_m7 226 rfl
theorem q1785 : (Jvm.Cond.selects "FairHouse$Ghost" ({ cls := "FairHouse$Lamps", name := "light", desc := "()LFairHouse$Light;" } : Jvm.MethodName) ({ cls := "FairHouse$Ghost", name := "light", desc := "()LFairHouse$Light;" } : Jvm.MethodName)) ∈ lw_all := lw_g (lw_at lw_m7 227 rfl) rfl
theorem q1786 : (Jvm.Cond.unhidden "FairHouse$Ghost" "light" "()LFairHouse$Light;") ∈ lw_tbl := lw_at lw_m7 228 rfl
theorem q1787 : (Jvm.Cond.instanceMethod ({ cls := "FairHouse$Ghost", name := "light", desc := "()LFairHouse$Light;" } : Jvm.MethodName)) ∈ lw_all := lw_g (lw_at lw_m7 229 rfl) rfl
theorem q1788 : (Jvm.Cond.publicMethod ({ cls := "FairHouse$Ghost", name := "light", desc := "()LFairHouse$Light;" } : Jvm.MethodName)) ∈ lw_tbl := lw_at lw_m7 230 rfl
theorem q1789 : (Jvm.Cond.code ({ cls := "FairHouse$Ghost", name := "light", desc := "()LFairHouse$Light;" } : Jvm.MethodName) prog_10_method_3_code (1 : Nat) (Option.some (Jvm.ClassFile.FieldType.object "FairHouse$Light"))) ∈ lw_all := lw_g (lw_at lw_m7 231 rfl) rfl
theorem q1807 : (Jvm.Cond.castable "FairHouse$Ghost" "FairHouse$Sounds") ∈ lw_tbl := lw_at lw_m8 9 rfl
theorem q1808 : (Jvm.Cond.selects "FairHouse$Ghost" ({ cls := "FairHouse$Sounds", name := "voice", desc := "()LFairHouse$Voice;" } : Jvm.MethodName) ({ cls := "FairHouse$Ghost", name := "voice", desc := "()LFairHouse$Voice;" } : Jvm.MethodName)) ∈ lw_all := lw_g (lw_at lw_m8 10 rfl) rfl
theorem q1809 : (Jvm.Cond.unhidden "FairHouse$Ghost" "voice" "()LFairHouse$Voice;") ∈ lw_tbl := lw_at lw_m8 11 rfl
theorem q1810 : (Jvm.Cond.instanceMethod ({ cls := "FairHouse$Ghost", name := "voice", desc := "()LFairHouse$Voice;" } : Jvm.MethodName)) ∈ lw_all := lw_g (lw_at lw_m8 12 rfl) rfl
theorem q1811 : (Jvm.Cond.publicMethod ({ cls := "FairHouse$Ghost", name := "voice", desc := "()LFairHouse$Voice;" } : Jvm.MethodName)) ∈ lw_tbl := lw_at lw_m8 13 rfl
theorem q1812 : (Jvm.Cond.code ({ cls := "FairHouse$Ghost", name := "voice", desc := "()LFairHouse$Voice;" } : Jvm.MethodName) prog_10_method_4_code (1 : Nat) (Option.some (Jvm.ClassFile.FieldType.object "FairHouse$Voice"))) ∈ lw_all := lw_g (lw_at lw_m8 14 rfl) rfl
theorem q1830 : (Jvm.Cond.castable "FairHouse$Ghost" "FairHouse$Seats") ∈ lw_tbl := lw_at lw_m8 32 rfl
theorem q1831 : (Jvm.Cond.selects "FairHouse$Ghost" ({ cls := "FairHouse$Seats", name := "bench", desc := "()LFairHouse$Bench;" } : Jvm.MethodName) ({ cls := "FairHouse$Ghost", name := "bench", desc := "()LFairHouse$Bench;" } : Jvm.MethodName)) ∈ lw_all := lw_g (lw_at lw_m8 33 rfl) rfl
theorem q1832 : (Jvm.Cond.unhidden "FairHouse$Ghost" "bench" "()LFairHouse$Bench;") ∈ lw_tbl := lw_at lw_m8 34 rfl
theorem q1833 : (Jvm.Cond.instanceMethod ({ cls := "FairHouse$Ghost", name := "bench", desc := "()LFairHouse$Bench;" } : Jvm.MethodName)) ∈ lw_all := lw_g (lw_at lw_m8 35 rfl) rfl
theorem q1834 : (Jvm.Cond.publicMethod ({ cls := "FairHouse$Ghost", name := "bench", desc := "()LFairHouse$Bench;" } : Jvm.MethodName)) ∈ lw_tbl := lw_at lw_m8 36 rfl
theorem q1835 : (Jvm.Cond.code ({ cls := "FairHouse$Ghost", name := "bench", desc := "()LFairHouse$Bench;" } : Jvm.MethodName) prog_10_method_2_code (1 : Nat) (Option.some (Jvm.ClassFile.FieldType.object "FairHouse$Bench"))) ∈ lw_all := lw_g (lw_at lw_m8 37 rfl) rfl
theorem q2091 : (Jvm.Cond.castable "FairHouse$Ghost" "FairHouse$Machine") ∈ lw_tbl := lw_at lw_m9 53 rfl
theorem q2092 : (Jvm.Cond.selects "FairHouse$Ghost" ({ cls := "FairHouse$Machine", name := "isCalm", desc := "()Z" } : Jvm.MethodName) ({ cls := "FairHouse$Ghost", name := "isCalm", desc := "()Z" } : Jvm.MethodName)) ∈ lw_all := lw_g (lw_at lw_m9 54 rfl) rfl
theorem q2093 : (Jvm.Cond.unhidden "FairHouse$Ghost" "isCalm" "()Z") ∈ lw_tbl := lw_at lw_m9 55 rfl
theorem q2094 : (Jvm.Cond.instanceMethod ({ cls := "FairHouse$Ghost", name := "isCalm", desc := "()Z" } : Jvm.MethodName)) ∈ lw_all := lw_g (lw_at lw_m9 56 rfl) rfl
theorem q2095 : (Jvm.Cond.publicMethod ({ cls := "FairHouse$Ghost", name := "isCalm", desc := "()Z" } : Jvm.MethodName)) ∈ lw_tbl := lw_at lw_m9 57 rfl
theorem q2096 : (Jvm.Cond.code ({ cls := "FairHouse$Ghost", name := "isCalm", desc := "()Z" } : Jvm.MethodName) prog_10_method_7_code (2 : Nat) (Option.some Jvm.ClassFile.FieldType.boolean)) ∈ lw_all := lw_g (lw_at lw_m9 58 rfl) rfl
theorem q2097 : (Jvm.Cond.interfaceEntry "FairHouse$Ghost" (50 : Nat)) ∈ lw_tbl := lw_at lw_m9 59 rfl
theorem q2098 : (Jvm.Cond.methodLink "FairHouse$Ghost" (50 : Nat) ({ cls := "FairHouse$Sounds", name := "isSoft", desc := "()Z" } : Jvm.MethodName)) ∈ lw_all := lw_g (lw_at lw_m9 60 rfl) rfl
theorem q2107 : (Jvm.Cond.unhidden "FairHouse$Ghost" "isSoft" "()Z") ∈ lw_tbl := lw_at lw_m9 69 rfl
theorem q2173 : (Jvm.Cond.unhidden "FairHouse$Ghost" "board" "(I)I") ∈ lw_tbl := lw_at lw_m9 135 rfl
theorem q2258 : (Jvm.Cond.unhidden "FairHouse$Ghost" "ease" "()V") ∈ lw_tbl := lw_at lw_m9 220 rfl
theorem q2368 : (Jvm.Cond.unhidden "FairHouse$Ghost" "burn" "()I") ∈ lw_tbl := lw_at lw_m10 90 rfl
theorem q2396 : (Jvm.Cond.unhidden "FairHouse$Ghost" "hiss" "()I") ∈ lw_tbl := lw_at lw_m10 118 rfl
theorem q2399 : (Jvm.Cond.selects "FairHouse$Ghost" ({ cls := "FairHouse$Machine", name := "draw", desc := "()I" } : Jvm.MethodName) ({ cls := "FairHouse$Ghost", name := "draw", desc := "()I" } : Jvm.MethodName)) ∈ lw_all := lw_g (lw_at lw_m10 121 rfl) rfl
theorem q2400 : (Jvm.Cond.unhidden "FairHouse$Ghost" "draw" "()I") ∈ lw_tbl := lw_at lw_m10 122 rfl
theorem q2401 : (Jvm.Cond.instanceMethod ({ cls := "FairHouse$Ghost", name := "draw", desc := "()I" } : Jvm.MethodName)) ∈ lw_all := lw_g (lw_at lw_m10 123 rfl) rfl
theorem q2402 : (Jvm.Cond.publicMethod ({ cls := "FairHouse$Ghost", name := "draw", desc := "()I" } : Jvm.MethodName)) ∈ lw_tbl := lw_at lw_m10 124 rfl
theorem q2403 : (Jvm.Cond.code ({ cls := "FairHouse$Ghost", name := "draw", desc := "()I" } : Jvm.MethodName) prog_10_method_5_code (3 : Nat) (Option.some Jvm.ClassFile.FieldType.int)) ∈ lw_all := lw_g (lw_at lw_m10 125 rfl) rfl
theorem q2404 : (Jvm.Cond.interfaceEntry "FairHouse$Ghost" (32 : Nat)) ∈ lw_tbl := lw_at lw_m10 126 rfl
theorem q2405 : (Jvm.Cond.methodLink "FairHouse$Ghost" (32 : Nat) ({ cls := "FairHouse$Lamps", name := "burn", desc := "()I" } : Jvm.MethodName)) ∈ lw_all := lw_g (lw_at lw_m10 127 rfl) rfl
theorem q2406 : (Jvm.Cond.interfaceEntry "FairHouse$Ghost" (38 : Nat)) ∈ lw_tbl := lw_at lw_m10 128 rfl
theorem q2407 : (Jvm.Cond.methodLink "FairHouse$Ghost" (38 : Nat) ({ cls := "FairHouse$Sounds", name := "hiss", desc := "()I" } : Jvm.MethodName)) ∈ lw_all := lw_g (lw_at lw_m10 129 rfl) rfl
theorem q2490 : (Jvm.Cond.unhidden "FairHouse$Ghost" "limit" "()I") ∈ lw_tbl := lw_at lw_m10 212 rfl
theorem q2533 : (Jvm.Cond.unhidden "FairHouse$Ghost" "tear" "()I") ∈ lw_tbl := lw_at lw_m11 15 rfl
theorem q2604 : (Jvm.Cond.selects "FairHouse$Ghost" ({ cls := "FairHouse$Machine", name := "noise", desc := "()I" } : Jvm.MethodName) ({ cls := "FairHouse$Ghost", name := "noise", desc := "()I" } : Jvm.MethodName)) ∈ lw_all := lw_g (lw_at lw_m11 86 rfl) rfl
theorem q2605 : (Jvm.Cond.unhidden "FairHouse$Ghost" "noise" "()I") ∈ lw_tbl := lw_at lw_m11 87 rfl
theorem q2606 : (Jvm.Cond.instanceMethod ({ cls := "FairHouse$Ghost", name := "noise", desc := "()I" } : Jvm.MethodName)) ∈ lw_all := lw_g (lw_at lw_m11 88 rfl) rfl
theorem q2607 : (Jvm.Cond.publicMethod ({ cls := "FairHouse$Ghost", name := "noise", desc := "()I" } : Jvm.MethodName)) ∈ lw_tbl := lw_at lw_m11 89 rfl
theorem q2608 : (Jvm.Cond.code ({ cls := "FairHouse$Ghost", name := "noise", desc := "()I" } : Jvm.MethodName) prog_10_method_6_code (1 : Nat) (Option.some Jvm.ClassFile.FieldType.int)) ∈ lw_all := lw_g (lw_at lw_m11 90 rfl) rfl
theorem q3395 : (Jvm.Cond.castable "FairHouse$Ghost" "FairHouse$Ride") ∈ lw_tbl := lw_at lw_m14 157 rfl
theorem q3433 : (Jvm.Cond.castable "FairHouse$Ghost" "java/lang/Object") ∈ lw_tbl := lw_at lw_m14 195 rfl
theorem q162 : (Jvm.Cond.initialized "FairHouse$Star") ∈ lw_all := lw_g (lw_at lw_m1 44 rfl) rfl
theorem q965 : (Jvm.Cond.selects "FairHouse$Star" ({ cls := "java/lang/Object", name := "getClass", desc := "()Ljava/lang/Class;" } : Jvm.MethodName) ({ cls := "java/lang/Object", name := "getClass", desc := "()Ljava/lang/Class;" } : Jvm.MethodName)) ∈ lw_all := lw_g (lw_at lw_m4 127 rfl) rfl
theorem q1080 : (Jvm.Cond.fieldLinkNest "FairHouse$Star" (107 : Nat) "FairHouse$Spin" "accel" "I" "FairHouse") ∈ lw_tbl := lw_at lw_m5 2 rfl
theorem q1173 : (Jvm.Cond.fieldLinkNest "FairHouse$Star" (104 : Nat) "FairHouse$Hoist" "height" "I" "FairHouse") ∈ lw_tbl := lw_at lw_m5 95 rfl
theorem q1244 : (Jvm.Cond.fieldLinkNest "FairHouse$Star" (81 : Nat) "FairHouse$Voice" "volume" "I" "FairHouse") ∈ lw_tbl := lw_at lw_m5 166 rfl
theorem q1277 : (Jvm.Cond.fieldLinkNest "FairHouse$Star" (101 : Nat) "FairHouse$Light" "glow" "I" "FairHouse") ∈ lw_tbl := lw_at lw_m5 199 rfl
theorem q1342 : (Jvm.Cond.instantiable "FairHouse$Star" (8 : Nat)) ∈ lw_all := lw_g (lw_at lw_m6 24 rfl) rfl
theorem q1344 : (Jvm.Cond.instanceMethod ({ cls := "FairHouse$Star", name := "<init>", desc := "([I)V" } : Jvm.MethodName)) ∈ lw_all := lw_g (lw_at lw_m6 26 rfl) rfl
theorem q1345 : (Jvm.Cond.code ({ cls := "FairHouse$Star", name := "<init>", desc := "([I)V" } : Jvm.MethodName) prog_32_method_1_code (2 : Nat) (Option.none : Option Jvm.ClassFile.FieldType)) ∈ lw_all := lw_g (lw_at lw_m6 27 rfl) rfl
theorem q1346 : (Jvm.Cond.methodLink "FairHouse$Star" (1 : Nat) ({ cls := "FairHouse$Ride", name := "<init>", desc := "(I)V" } : Jvm.MethodName)) ∈ lw_all := lw_g (lw_at lw_m6 28 rfl) rfl
theorem q1347 : (Jvm.Cond.classLink "FairHouse$Star" (7 : Nat) "FairHouse$Voice") ∈ lw_all := lw_g (lw_at lw_m6 29 rfl) rfl
theorem q1348 : (Jvm.Cond.methodLinkNest "FairHouse$Star" (9 : Nat) ({ cls := "FairHouse$Voice", name := "<init>", desc := "()V" } : Jvm.MethodName) "FairHouse") ∈ lw_tbl := lw_at lw_m6 30 rfl
theorem q1349 : (Jvm.Cond.classLink "FairHouse$Star" (18 : Nat) "FairHouse$Spin") ∈ lw_all := lw_g (lw_at lw_m6 31 rfl) rfl
theorem q1350 : (Jvm.Cond.methodLink "FairHouse$Star" (20 : Nat) ({ cls := "FairHouse$Spin", name := "<init>", desc := "(II)V" } : Jvm.MethodName)) ∈ lw_all := lw_g (lw_at lw_m6 32 rfl) rfl
theorem q1351 : (Jvm.Cond.classLink "FairHouse$Star" (27 : Nat) "FairHouse$Hoist") ∈ lw_all := lw_g (lw_at lw_m6 33 rfl) rfl
theorem q1352 : (Jvm.Cond.methodLink "FairHouse$Star" (29 : Nat) ({ cls := "FairHouse$Hoist", name := "<init>", desc := "(II)V" } : Jvm.MethodName)) ∈ lw_all := lw_g (lw_at lw_m6 34 rfl) rfl
theorem q1353 : (Jvm.Cond.classLink "FairHouse$Star" (34 : Nat) "FairHouse$Bench") ∈ lw_all := lw_g (lw_at lw_m6 35 rfl) rfl
theorem q1354 : (Jvm.Cond.methodLink "FairHouse$Star" (36 : Nat) ({ cls := "FairHouse$Bench", name := "<init>", desc := "(I)V" } : Jvm.MethodName)) ∈ lw_all := lw_g (lw_at lw_m6 36 rfl) rfl
theorem q1355 : (Jvm.Cond.classLink "FairHouse$Star" (41 : Nat) "FairHouse$Light") ∈ lw_all := lw_g (lw_at lw_m6 37 rfl) rfl
theorem q1356 : (Jvm.Cond.methodLink "FairHouse$Star" (43 : Nat) ({ cls := "FairHouse$Light", name := "<init>", desc := "(I)V" } : Jvm.MethodName)) ∈ lw_all := lw_g (lw_at lw_m6 38 rfl) rfl
theorem q1357 : (Jvm.Cond.fieldLink "FairHouse$Star" (23 : Nat) "FairHouse$Star" "spin" "LFairHouse$Spin;") ∈ lw_all := lw_g (lw_at lw_m6 39 rfl) rfl
theorem q1358 : (Jvm.Cond.fieldLink "FairHouse$Star" (30 : Nat) "FairHouse$Star" "hoist" "LFairHouse$Hoist;") ∈ lw_all := lw_g (lw_at lw_m6 40 rfl) rfl
theorem q1359 : (Jvm.Cond.fieldLink "FairHouse$Star" (37 : Nat) "FairHouse$Star" "bench" "LFairHouse$Bench;") ∈ lw_all := lw_g (lw_at lw_m6 41 rfl) rfl
theorem q1360 : (Jvm.Cond.fieldLink "FairHouse$Star" (44 : Nat) "FairHouse$Star" "light" "LFairHouse$Light;") ∈ lw_all := lw_g (lw_at lw_m6 42 rfl) rfl
theorem q1361 : (Jvm.Cond.fieldLink "FairHouse$Star" (12 : Nat) "FairHouse$Star" "voice" "LFairHouse$Voice;") ∈ lw_all := lw_g (lw_at lw_m6 43 rfl) rfl
theorem q1362 : (Jvm.Cond.laysFinal "FairHouse$Star" "FairHouse$Star" "spin" "LFairHouse$Spin;") ∈ lw_all := lw_g (lw_at lw_m6 44 rfl) rfl
theorem q1363 : (Jvm.Cond.soleField "FairHouse$Star" "spin") ∈ lw_all := lw_g (lw_at lw_m6 45 rfl) rfl
theorem q1364 : (Jvm.Cond.laysFinal "FairHouse$Star" "FairHouse$Star" "hoist" "LFairHouse$Hoist;") ∈ lw_all := lw_g (lw_at lw_m6 46 rfl) rfl
theorem q1365 : (Jvm.Cond.soleField "FairHouse$Star" "hoist") ∈ lw_all := lw_g (lw_at lw_m6 47 rfl) rfl
theorem q1366 : (Jvm.Cond.laysFinal "FairHouse$Star" "FairHouse$Star" "bench" "LFairHouse$Bench;") ∈ lw_all := lw_g (lw_at lw_m6 48 rfl) rfl
theorem q1367 : (Jvm.Cond.soleField "FairHouse$Star" "bench") ∈ lw_all := lw_g (lw_at lw_m6 49 rfl) rfl
theorem q1368 : (Jvm.Cond.laysFinal "FairHouse$Star" "FairHouse$Star" "light" "LFairHouse$Light;") ∈ lw_all := lw_g (lw_at lw_m6 50 rfl) rfl
theorem q1369 : (Jvm.Cond.soleField "FairHouse$Star" "light") ∈ lw_all := lw_g (lw_at lw_m6 51 rfl) rfl
theorem q1370 : (Jvm.Cond.laysFinal "FairHouse$Star" "FairHouse$Star" "voice" "LFairHouse$Voice;") ∈ lw_all := lw_g (lw_at lw_m6 52 rfl) rfl
theorem q1371 : (Jvm.Cond.soleField "FairHouse$Star" "voice") ∈ lw_all := lw_g (lw_at lw_m6 53 rfl) rfl
theorem q1372 : (Jvm.Cond.laysFinal "FairHouse$Star" "FairHouse$Ride" "kind" "I") ∈ lw_all := lw_g (lw_at lw_m6 54 rfl) rfl
theorem q1373 : (Jvm.Cond.laysFinal "FairHouse$Star" "FairHouse$Ride" "script" "LFairHouse$Script;") ∈ lw_all := lw_g (lw_at lw_m6 55 rfl) rfl
theorem q1374 : (Jvm.Cond.lays "FairHouse$Star" "FairHouse$Ride" "wear" "I") ∈ lw_all := lw_g (lw_at lw_m6 56 rfl) rfl
theorem q1375 : (Jvm.Cond.superclass "FairHouse$Star" "FairHouse$Ride") ∈ lw_all := lw_g (lw_at lw_m6 57 rfl) rfl
theorem q1403 : (Jvm.Cond.castable "FairHouse$Star" "FairHouse$Turns") ∈ lw_tbl := lw_at lw_m6 85 rfl
theorem q1404 : (Jvm.Cond.selects "FairHouse$Star" ({ cls := "FairHouse$Turns", name := "spin", desc := "()LFairHouse$Spin;" } : Jvm.MethodName) ({ cls := "FairHouse$Star", name := "spin", desc := "()LFairHouse$Spin;" } : Jvm.MethodName)) ∈ lw_all := lw_g (lw_at lw_m6 86 rfl) rfl
theorem q1405 : (Jvm.Cond.unhidden "FairHouse$Star" "spin" "()LFairHouse$Spin;") ∈ lw_tbl := lw_at lw_m6 87 rfl
theorem q1406 : (Jvm.Cond.instanceMethod ({ cls := "FairHouse$Star", name := "spin", desc := "()LFairHouse$Spin;" } : Jvm.MethodName)) ∈ lw_all := lw_g (lw_at lw_m6 88 rfl) rfl
theorem q1407 : (Jvm.Cond.publicMethod ({ cls := "FairHouse$Star", name := "spin", desc := "()LFairHouse$Spin;" } : Jvm.MethodName)) ∈ lw_tbl := lw_at lw_m6 89 rfl
theorem q1408 : (Jvm.Cond.code ({ cls := "FairHouse$Star", name := "spin", desc := "()LFairHouse$Spin;" } : Jvm.MethodName) prog_32_method_2_code (1 : Nat) (Option.some (Jvm.ClassFile.FieldType.object "FairHouse$Spin"))) ∈ lw_all := lw_g (lw_at lw_m6 90 rfl) rfl
theorem q1746 : (Jvm.Cond.castable "FairHouse$Star" "FairHouse$Lifts") ∈ lw_tbl := lw_at lw_m7 188 rfl
theorem q1747 : (Jvm.Cond.selects "FairHouse$Star" ({ cls := "FairHouse$Lifts", name := "hoist", desc := "()LFairHouse$Hoist;" } : Jvm.MethodName) ({ cls := "FairHouse$Star", name := "hoist", desc := "()LFairHouse$Hoist;" } : Jvm.MethodName)) ∈ lw_all := lw_g (lw_at lw_m7 189 rfl) rfl
theorem q1748 : (Jvm.Cond.unhidden "FairHouse$Star" "hoist" "()LFairHouse$Hoist;") ∈ lw_tbl := lw_at lw_m7 190 rfl
theorem q1749 : (Jvm.Cond.instanceMethod ({ cls := "FairHouse$Star", name := "hoist", desc := "()LFairHouse$Hoist;" } : Jvm.MethodName)) ∈ lw_all := lw_g (lw_at lw_m7 191 rfl) rfl
theorem q1750 : (Jvm.Cond.publicMethod ({ cls := "FairHouse$Star", name := "hoist", desc := "()LFairHouse$Hoist;" } : Jvm.MethodName)) ∈ lw_tbl := lw_at lw_m7 192 rfl
theorem q1751 : (Jvm.Cond.code ({ cls := "FairHouse$Star", name := "hoist", desc := "()LFairHouse$Hoist;" } : Jvm.MethodName) prog_32_method_3_code (1 : Nat) (Option.some (Jvm.ClassFile.FieldType.object "FairHouse$Hoist"))) ∈ lw_all := lw_g (lw_at lw_m7 193 rfl) rfl
theorem q1790 : (Jvm.Cond.castable "FairHouse$Star" "FairHouse$Lamps") ∈ lw_tbl := lw_at lw_m7 232 rfl
theorem q1791 : (Jvm.Cond.selects "FairHouse$Star" ({ cls := "FairHouse$Lamps", name := "light", desc := "()LFairHouse$Light;" } : Jvm.MethodName) ({ cls := "FairHouse$Star", name := "light", desc := "()LFairHouse$Light;" } : Jvm.MethodName)) ∈ lw_all := lw_g (lw_at lw_m7 233 rfl) rfl
theorem q1792 : (Jvm.Cond.unhidden "FairHouse$Star" "light" "()LFairHouse$Light;") ∈ lw_tbl := lw_at lw_m7 234 rfl
theorem q1793 : (Jvm.Cond.instanceMethod ({ cls := "FairHouse$Star", name := "light", desc := "()LFairHouse$Light;" } : Jvm.MethodName)) ∈ lw_all := lw_g (lw_at lw_m7 235 rfl) rfl
theorem q1794 : (Jvm.Cond.publicMethod ({ cls := "FairHouse$Star", name := "light", desc := "()LFairHouse$Light;" } : Jvm.MethodName)) ∈ lw_tbl := lw_at lw_m7 236 rfl
theorem q1795 : (Jvm.Cond.code ({ cls := "FairHouse$Star", name := "light", desc := "()LFairHouse$Light;" } : Jvm.MethodName) prog_32_method_5_code (1 : Nat) (Option.some (Jvm.ClassFile.FieldType.object "FairHouse$Light"))) ∈ lw_all := lw_g (lw_at lw_m7 237 rfl) rfl
theorem q1819 : (Jvm.Cond.castable "FairHouse$Star" "FairHouse$Sounds") ∈ lw_tbl := lw_at lw_m8 21 rfl
theorem q1820 : (Jvm.Cond.selects "FairHouse$Star" ({ cls := "FairHouse$Sounds", name := "voice", desc := "()LFairHouse$Voice;" } : Jvm.MethodName) ({ cls := "FairHouse$Star", name := "voice", desc := "()LFairHouse$Voice;" } : Jvm.MethodName)) ∈ lw_all := lw_g (lw_at lw_m8 22 rfl) rfl
theorem q1821 : (Jvm.Cond.unhidden "FairHouse$Star" "voice" "()LFairHouse$Voice;") ∈ lw_tbl := lw_at lw_m8 23 rfl
theorem q1822 : (Jvm.Cond.instanceMethod ({ cls := "FairHouse$Star", name := "voice", desc := "()LFairHouse$Voice;" } : Jvm.MethodName)) ∈ lw_all := lw_g (lw_at lw_m8 24 rfl) rfl
theorem q1823 : (Jvm.Cond.publicMethod ({ cls := "FairHouse$Star", name := "voice", desc := "()LFairHouse$Voice;" } : Jvm.MethodName)) ∈ lw_tbl := lw_at lw_m8 25 rfl
theorem q1824 : (Jvm.Cond.code ({ cls := "FairHouse$Star", name := "voice", desc := "()LFairHouse$Voice;" } : Jvm.MethodName) prog_32_method_6_code (1 : Nat) (Option.some (Jvm.ClassFile.FieldType.object "FairHouse$Voice"))) ∈ lw_all := lw_g (lw_at lw_m8 26 rfl) rfl
theorem q1836 : (Jvm.Cond.castable "FairHouse$Star" "FairHouse$Seats") ∈ lw_tbl := lw_at lw_m8 38 rfl
theorem q1837 : (Jvm.Cond.selects "FairHouse$Star" ({ cls := "FairHouse$Seats", name := "bench", desc := "()LFairHouse$Bench;" } : Jvm.MethodName) ({ cls := "FairHouse$Star", name := "bench", desc := "()LFairHouse$Bench;" } : Jvm.MethodName)) ∈ lw_all := lw_g (lw_at lw_m8 39 rfl) rfl
theorem q1838 : (Jvm.Cond.unhidden "FairHouse$Star" "bench" "()LFairHouse$Bench;") ∈ lw_tbl := lw_at lw_m8 40 rfl
theorem q1839 : (Jvm.Cond.instanceMethod ({ cls := "FairHouse$Star", name := "bench", desc := "()LFairHouse$Bench;" } : Jvm.MethodName)) ∈ lw_all := lw_g (lw_at lw_m8 41 rfl) rfl
theorem q1840 : (Jvm.Cond.publicMethod ({ cls := "FairHouse$Star", name := "bench", desc := "()LFairHouse$Bench;" } : Jvm.MethodName)) ∈ lw_tbl := lw_at lw_m8 42 rfl
theorem q1841 : (Jvm.Cond.code ({ cls := "FairHouse$Star", name := "bench", desc := "()LFairHouse$Bench;" } : Jvm.MethodName) prog_32_method_4_code (1 : Nat) (Option.some (Jvm.ClassFile.FieldType.object "FairHouse$Bench"))) ∈ lw_all := lw_g (lw_at lw_m8 43 rfl) rfl
theorem q2088 : (Jvm.Cond.unhidden "FairHouse$Star" "isDown" "()Z") ∈ lw_tbl := lw_at lw_m9 50 rfl
theorem q2109 : (Jvm.Cond.unhidden "FairHouse$Star" "isSoft" "()Z") ∈ lw_tbl := lw_at lw_m9 71 rfl
theorem q2116 : (Jvm.Cond.castable "FairHouse$Star" "FairHouse$Machine") ∈ lw_tbl := lw_at lw_m9 78 rfl
theorem q2117 : (Jvm.Cond.selects "FairHouse$Star" ({ cls := "FairHouse$Machine", name := "isCalm", desc := "()Z" } : Jvm.MethodName) ({ cls := "FairHouse$Star", name := "isCalm", desc := "()Z" } : Jvm.MethodName)) ∈ lw_all := lw_g (lw_at lw_m9 79 rfl) rfl
theorem q2118 : (Jvm.Cond.unhidden "FairHouse$Star" "isCalm" "()Z") ∈ lw_tbl := lw_at lw_m9 80 rfl
theorem q2119 : (Jvm.Cond.instanceMethod ({ cls := "FairHouse$Star", name := "isCalm", desc := "()Z" } : Jvm.MethodName)) ∈ lw_all := lw_g (lw_at lw_m9 81 rfl) rfl
theorem q2120 : (Jvm.Cond.publicMethod ({ cls := "FairHouse$Star", name := "isCalm", desc := "()Z" } : Jvm.MethodName)) ∈ lw_tbl := lw_at lw_m9 82 rfl
theorem q2121 : (Jvm.Cond.code ({ cls := "FairHouse$Star", name := "isCalm", desc := "()Z" } : Jvm.MethodName) prog_32_method_10_code (4 : Nat) (Option.some Jvm.ClassFile.FieldType.boolean)) ∈ lw_all := lw_g (lw_at lw_m9 83 rfl) rfl
theorem q2122 : (Jvm.Cond.interfaceEntry "FairHouse$Star" (91 : Nat)) ∈ lw_tbl := lw_at lw_m9 84 rfl
theorem q2123 : (Jvm.Cond.methodLink "FairHouse$Star" (91 : Nat) ({ cls := "FairHouse$Turns", name := "isStill", desc := "()Z" } : Jvm.MethodName)) ∈ lw_all := lw_g (lw_at lw_m9 85 rfl) rfl
theorem q2132 : (Jvm.Cond.unhidden "FairHouse$Star" "isStill" "()Z") ∈ lw_tbl := lw_at lw_m9 94 rfl
theorem q2136 : (Jvm.Cond.interfaceEntry "FairHouse$Star" (95 : Nat)) ∈ lw_tbl := lw_at lw_m9 98 rfl
theorem q2137 : (Jvm.Cond.methodLink "FairHouse$Star" (95 : Nat) ({ cls := "FairHouse$Lifts", name := "isDown", desc := "()Z" } : Jvm.MethodName)) ∈ lw_all := lw_g (lw_at lw_m9 99 rfl) rfl
theorem q2138 : (Jvm.Cond.interfaceEntry "FairHouse$Star" (98 : Nat)) ∈ lw_tbl := lw_at lw_m9 100 rfl
theorem q2139 : (Jvm.Cond.methodLink "FairHouse$Star" (98 : Nat) ({ cls := "FairHouse$Sounds", name := "isSoft", desc := "()Z" } : Jvm.MethodName)) ∈ lw_all := lw_g (lw_at lw_m9 101 rfl) rfl
theorem q2183 : (Jvm.Cond.unhidden "FairHouse$Star" "board" "(I)I") ∈ lw_tbl := lw_at lw_m9 145 rfl
theorem q2276 : (Jvm.Cond.unhidden "FairHouse$Star" "turn" "()V") ∈ lw_tbl := lw_at lw_m9 238 rfl
theorem q2285 : (Jvm.Cond.selects "FairHouse$Star" ({ cls := "FairHouse$Machine", name := "ease", desc := "()V" } : Jvm.MethodName) ({ cls := "FairHouse$Star", name := "ease", desc := "()V" } : Jvm.MethodName)) ∈ lw_all := lw_g (lw_at lw_m10 7 rfl) rfl
theorem q2286 : (Jvm.Cond.unhidden "FairHouse$Star" "ease" "()V") ∈ lw_tbl := lw_at lw_m10 8 rfl
theorem q2287 : (Jvm.Cond.instanceMethod ({ cls := "FairHouse$Star", name := "ease", desc := "()V" } : Jvm.MethodName)) ∈ lw_all := lw_g (lw_at lw_m10 9 rfl) rfl
theorem q2288 : (Jvm.Cond.publicMethod ({ cls := "FairHouse$Star", name := "ease", desc := "()V" } : Jvm.MethodName)) ∈ lw_tbl := lw_at lw_m10 10 rfl
theorem q2289 : (Jvm.Cond.code ({ cls := "FairHouse$Star", name := "ease", desc := "()V" } : Jvm.MethodName) prog_32_method_12_code (2 : Nat) (Option.none : Option Jvm.ClassFile.FieldType)) ∈ lw_all := lw_g (lw_at lw_m10 11 rfl) rfl
theorem q2290 : (Jvm.Cond.methodLink "FairHouse$Star" (69 : Nat) ({ cls := "java/lang/Math", name := "max", desc := "(II)I" } : Jvm.MethodName)) ∈ lw_all := lw_g (lw_at lw_m10 12 rfl) rfl
theorem q2291 : (Jvm.Cond.methodLink "FairHouse$Star" (110 : Nat) ({ cls := "FairHouse$Spin", name := "near", desc := "(I)V" } : Jvm.MethodName)) ∈ lw_all := lw_g (lw_at lw_m10 13 rfl) rfl
theorem q2292 : (Jvm.Cond.interfaceEntry "FairHouse$Star" (113 : Nat)) ∈ lw_tbl := lw_at lw_m10 14 rfl
theorem q2293 : (Jvm.Cond.methodLink "FairHouse$Star" (113 : Nat) ({ cls := "FairHouse$Lifts", name := "rise", desc := "()V" } : Jvm.MethodName)) ∈ lw_all := lw_g (lw_at lw_m10 15 rfl) rfl
theorem q2301 : (Jvm.Cond.unhidden "FairHouse$Star" "rise" "()V") ∈ lw_tbl := lw_at lw_m10 23 rfl
theorem q2369 : (Jvm.Cond.unhidden "FairHouse$Star" "burn" "()I") ∈ lw_tbl := lw_at lw_m10 91 rfl
theorem q2383 : (Jvm.Cond.unhidden "FairHouse$Star" "heave" "()I") ∈ lw_tbl := lw_at lw_m10 105 rfl
theorem q2398 : (Jvm.Cond.unhidden "FairHouse$Star" "hiss" "()I") ∈ lw_tbl := lw_at lw_m10 120 rfl
theorem q2422 : (Jvm.Cond.unhidden "FairHouse$Star" "pull" "()I") ∈ lw_tbl := lw_at lw_m10 144 rfl
theorem q2428 : (Jvm.Cond.selects "FairHouse$Star" ({ cls := "FairHouse$Machine", name := "draw", desc := "()I" } : Jvm.MethodName) ({ cls := "FairHouse$Star", name := "draw", desc := "()I" } : Jvm.MethodName)) ∈ lw_all := lw_g (lw_at lw_m10 150 rfl) rfl
theorem q2429 : (Jvm.Cond.unhidden "FairHouse$Star" "draw" "()I") ∈ lw_tbl := lw_at lw_m10 151 rfl
theorem q2430 : (Jvm.Cond.instanceMethod ({ cls := "FairHouse$Star", name := "draw", desc := "()I" } : Jvm.MethodName)) ∈ lw_all := lw_g (lw_at lw_m10 152 rfl) rfl
theorem q2431 : (Jvm.Cond.publicMethod ({ cls := "FairHouse$Star", name := "draw", desc := "()I" } : Jvm.MethodName)) ∈ lw_tbl := lw_at lw_m10 153 rfl
theorem q2432 : (Jvm.Cond.code ({ cls := "FairHouse$Star", name := "draw", desc := "()I" } : Jvm.MethodName) prog_32_method_7_code (5 : Nat) (Option.some Jvm.ClassFile.FieldType.int)) ∈ lw_all := lw_g (lw_at lw_m10 154 rfl) rfl
theorem q2433 : (Jvm.Cond.interfaceEntry "FairHouse$Star" (48 : Nat)) ∈ lw_tbl := lw_at lw_m10 155 rfl
theorem q2434 : (Jvm.Cond.methodLink "FairHouse$Star" (48 : Nat) ({ cls := "FairHouse$Turns", name := "pull", desc := "()I" } : Jvm.MethodName)) ∈ lw_all := lw_g (lw_at lw_m10 156 rfl) rfl
theorem q2435 : (Jvm.Cond.interfaceEntry "FairHouse$Star" (54 : Nat)) ∈ lw_tbl := lw_at lw_m10 157 rfl
theorem q2436 : (Jvm.Cond.methodLink "FairHouse$Star" (54 : Nat) ({ cls := "FairHouse$Lifts", name := "heave", desc := "()I" } : Jvm.MethodName)) ∈ lw_all := lw_g (lw_at lw_m10 158 rfl) rfl
theorem q2437 : (Jvm.Cond.interfaceEntry "FairHouse$Star" (59 : Nat)) ∈ lw_tbl := lw_at lw_m10 159 rfl
theorem q2438 : (Jvm.Cond.methodLink "FairHouse$Star" (59 : Nat) ({ cls := "FairHouse$Lamps", name := "burn", desc := "()I" } : Jvm.MethodName)) ∈ lw_all := lw_g (lw_at lw_m10 160 rfl) rfl
theorem q2439 : (Jvm.Cond.interfaceEntry "FairHouse$Star" (64 : Nat)) ∈ lw_tbl := lw_at lw_m10 161 rfl
theorem q2440 : (Jvm.Cond.methodLink "FairHouse$Star" (64 : Nat) ({ cls := "FairHouse$Sounds", name := "hiss", desc := "()I" } : Jvm.MethodName)) ∈ lw_all := lw_g (lw_at lw_m10 162 rfl) rfl
theorem q2496 : (Jvm.Cond.selects "FairHouse$Star" ({ cls := "FairHouse$Machine", name := "limit", desc := "()I" } : Jvm.MethodName) ({ cls := "FairHouse$Star", name := "limit", desc := "()I" } : Jvm.MethodName)) ∈ lw_all := lw_g (lw_at lw_m10 218 rfl) rfl
theorem q2497 : (Jvm.Cond.unhidden "FairHouse$Star" "limit" "()I") ∈ lw_tbl := lw_at lw_m10 219 rfl
theorem q2498 : (Jvm.Cond.instanceMethod ({ cls := "FairHouse$Star", name := "limit", desc := "()I" } : Jvm.MethodName)) ∈ lw_all := lw_g (lw_at lw_m10 220 rfl) rfl
theorem q2499 : (Jvm.Cond.publicMethod ({ cls := "FairHouse$Star", name := "limit", desc := "()I" } : Jvm.MethodName)) ∈ lw_tbl := lw_at lw_m10 221 rfl
theorem q2500 : (Jvm.Cond.code ({ cls := "FairHouse$Star", name := "limit", desc := "()I" } : Jvm.MethodName) prog_32_method_11_code (1 : Nat) (Option.some Jvm.ClassFile.FieldType.int)) ∈ lw_all := lw_g (lw_at lw_m10 222 rfl) rfl
theorem q2530 : (Jvm.Cond.unhidden "FairHouse$Star" "rub" "()I") ∈ lw_tbl := lw_at lw_m11 12 rfl
theorem q2539 : (Jvm.Cond.selects "FairHouse$Star" ({ cls := "FairHouse$Machine", name := "tear", desc := "()I" } : Jvm.MethodName) ({ cls := "FairHouse$Star", name := "tear", desc := "()I" } : Jvm.MethodName)) ∈ lw_all := lw_g (lw_at lw_m11 21 rfl) rfl
theorem q2540 : (Jvm.Cond.unhidden "FairHouse$Star" "tear" "()I") ∈ lw_tbl := lw_at lw_m11 22 rfl
theorem q2541 : (Jvm.Cond.instanceMethod ({ cls := "FairHouse$Star", name := "tear", desc := "()I" } : Jvm.MethodName)) ∈ lw_all := lw_g (lw_at lw_m11 23 rfl) rfl
theorem q2542 : (Jvm.Cond.publicMethod ({ cls := "FairHouse$Star", name := "tear", desc := "()I" } : Jvm.MethodName)) ∈ lw_tbl := lw_at lw_m11 24 rfl
theorem q2543 : (Jvm.Cond.code ({ cls := "FairHouse$Star", name := "tear", desc := "()I" } : Jvm.MethodName) prog_32_method_9_code (2 : Nat) (Option.some Jvm.ClassFile.FieldType.int)) ∈ lw_all := lw_g (lw_at lw_m11 25 rfl) rfl
theorem q2544 : (Jvm.Cond.methodLink "FairHouse$Star" (85 : Nat) ({ cls := "FairHouse$Spin", name := "size", desc := "()I" } : Jvm.MethodName)) ∈ lw_all := lw_g (lw_at lw_m11 26 rfl) rfl
theorem q2545 : (Jvm.Cond.interfaceEntry "FairHouse$Star" (88 : Nat)) ∈ lw_tbl := lw_at lw_m11 27 rfl
theorem q2546 : (Jvm.Cond.methodLink "FairHouse$Star" (88 : Nat) ({ cls := "FairHouse$Lifts", name := "rub", desc := "()I" } : Jvm.MethodName)) ∈ lw_all := lw_g (lw_at lw_m11 28 rfl) rfl
theorem q2600 : (Jvm.Cond.unhidden "FairHouse$Star" "creak" "()I") ∈ lw_tbl := lw_at lw_m11 82 rfl
theorem q2614 : (Jvm.Cond.selects "FairHouse$Star" ({ cls := "FairHouse$Machine", name := "noise", desc := "()I" } : Jvm.MethodName) ({ cls := "FairHouse$Star", name := "noise", desc := "()I" } : Jvm.MethodName)) ∈ lw_all := lw_g (lw_at lw_m11 96 rfl) rfl
theorem q2615 : (Jvm.Cond.unhidden "FairHouse$Star" "noise" "()I") ∈ lw_tbl := lw_at lw_m11 97 rfl
theorem q2616 : (Jvm.Cond.instanceMethod ({ cls := "FairHouse$Star", name := "noise", desc := "()I" } : Jvm.MethodName)) ∈ lw_all := lw_g (lw_at lw_m11 98 rfl) rfl
theorem q2617 : (Jvm.Cond.publicMethod ({ cls := "FairHouse$Star", name := "noise", desc := "()I" } : Jvm.MethodName)) ∈ lw_tbl := lw_at lw_m11 99 rfl
theorem q2618 : (Jvm.Cond.code ({ cls := "FairHouse$Star", name := "noise", desc := "()I" } : Jvm.MethodName) prog_32_method_8_code (3 : Nat) (Option.some Jvm.ClassFile.FieldType.int)) ∈ lw_all := lw_g (lw_at lw_m11 100 rfl) rfl
theorem q2619 : (Jvm.Cond.interfaceEntry "FairHouse$Star" (75 : Nat)) ∈ lw_tbl := lw_at lw_m11 101 rfl
theorem q2620 : (Jvm.Cond.methodLink "FairHouse$Star" (75 : Nat) ({ cls := "FairHouse$Turns", name := "hum", desc := "()I" } : Jvm.MethodName)) ∈ lw_all := lw_g (lw_at lw_m11 102 rfl) rfl
theorem q2627 : (Jvm.Cond.unhidden "FairHouse$Star" "hum" "()I") ∈ lw_tbl := lw_at lw_m11 109 rfl
theorem q2631 : (Jvm.Cond.interfaceEntry "FairHouse$Star" (78 : Nat)) ∈ lw_tbl := lw_at lw_m11 113 rfl
theorem q2632 : (Jvm.Cond.methodLink "FairHouse$Star" (78 : Nat) ({ cls := "FairHouse$Lifts", name := "creak", desc := "()I" } : Jvm.MethodName)) ∈ lw_all := lw_g (lw_at lw_m11 114 rfl) rfl
theorem q3397 : (Jvm.Cond.castable "FairHouse$Star" "FairHouse$Ride") ∈ lw_tbl := lw_at lw_m14 159 rfl
theorem q3434 : (Jvm.Cond.castable "FairHouse$Star" "java/lang/Object") ∈ lw_tbl := lw_at lw_m14 196 rfl
theorem q163 : (Jvm.Cond.initialized "FairHouse$Tail") ∈ lw_all := lw_g (lw_at lw_m1 45 rfl) rfl
theorem q967 : (Jvm.Cond.selects "FairHouse$Tail" ({ cls := "java/lang/Object", name := "getClass", desc := "()Ljava/lang/Class;" } : Jvm.MethodName) ({ cls := "java/lang/Object", name := "getClass", desc := "()Ljava/lang/Class;" } : Jvm.MethodName)) ∈ lw_all := lw_g (lw_at lw_m4 129 rfl) rfl
theorem q1377 : (Jvm.Cond.instantiable "FairHouse$Tail" (6 : Nat)) ∈ lw_all := lw_g (lw_at lw_m6 59 rfl) rfl
theorem q1415 : (Jvm.Cond.castable "FairHouse$Tail" "FairHouse$Turns") ∈ lw_tbl := lw_at lw_m6 97 rfl
theorem q1416 : (Jvm.Cond.selects "FairHouse$Tail" ({ cls := "FairHouse$Turns", name := "spin", desc := "()LFairHouse$Spin;" } : Jvm.MethodName) ({ cls := "FairHouse$Tail", name := "spin", desc := "()LFairHouse$Spin;" } : Jvm.MethodName)) ∈ lw_all := lw_g (lw_at lw_m6 98 rfl) rfl
theorem q1417 : (Jvm.Cond.unhidden "FairHouse$Tail" "spin" "()LFairHouse$Spin;") ∈ lw_tbl := lw_at lw_m6 99 rfl
theorem q1418 : (Jvm.Cond.instanceMethod ({ cls := "FairHouse$Tail", name := "spin", desc := "()LFairHouse$Spin;" } : Jvm.MethodName)) ∈ lw_all := lw_g (lw_at lw_m6 100 rfl) rfl
theorem q1419 : (Jvm.Cond.publicMethod ({ cls := "FairHouse$Tail", name := "spin", desc := "()LFairHouse$Spin;" } : Jvm.MethodName)) ∈ lw_tbl := lw_at lw_m6 101 rfl
theorem q1420 : (Jvm.Cond.code ({ cls := "FairHouse$Tail", name := "spin", desc := "()LFairHouse$Spin;" } : Jvm.MethodName) prog_34_method_2_code (1 : Nat) (Option.some (Jvm.ClassFile.FieldType.object "FairHouse$Spin"))) ∈ lw_all := lw_g (lw_at lw_m6 102 rfl) rfl
theorem q1428 : (Jvm.Cond.instanceMethod ({ cls := "FairHouse$Tail", name := "<init>", desc := "([ILFairHouse$Spin;)V" } : Jvm.MethodName)) ∈ lw_all := lw_g (lw_at lw_m6 110 rfl) rfl
theorem q1429 : (Jvm.Cond.code ({ cls := "FairHouse$Tail", name := "<init>", desc := "([ILFairHouse$Spin;)V" } : Jvm.MethodName) prog_34_method_1_code (3 : Nat) (Option.none : Option Jvm.ClassFile.FieldType)) ∈ lw_all := lw_g (lw_at lw_m6 111 rfl) rfl
theorem q1430 : (Jvm.Cond.methodLink "FairHouse$Tail" (1 : Nat) ({ cls := "FairHouse$Ride", name := "<init>", desc := "(I)V" } : Jvm.MethodName)) ∈ lw_all := lw_g (lw_at lw_m6 112 rfl) rfl
theorem q1431 : (Jvm.Cond.classLink "FairHouse$Tail" (7 : Nat) "FairHouse$Spin") ∈ lw_all := lw_g (lw_at lw_m6 113 rfl) rfl
theorem q1432 : (Jvm.Cond.methodLink "FairHouse$Tail" (9 : Nat) ({ cls := "FairHouse$Spin", name := "<init>", desc := "(II)V" } : Jvm.MethodName)) ∈ lw_all := lw_g (lw_at lw_m6 114 rfl) rfl
theorem q1433 : (Jvm.Cond.classLink "FairHouse$Tail" (18 : Nat) "FairHouse$Bench") ∈ lw_all := lw_g (lw_at lw_m6 115 rfl) rfl
theorem q1434 : (Jvm.Cond.methodLink "FairHouse$Tail" (20 : Nat) ({ cls := "FairHouse$Bench", name := "<init>", desc := "(I)V" } : Jvm.MethodName)) ∈ lw_all := lw_g (lw_at lw_m6 116 rfl) rfl
theorem q1435 : (Jvm.Cond.fieldLink "FairHouse$Tail" (12 : Nat) "FairHouse$Tail" "spin" "LFairHouse$Spin;") ∈ lw_all := lw_g (lw_at lw_m6 117 rfl) rfl
theorem q1436 : (Jvm.Cond.fieldLink "FairHouse$Tail" (25 : Nat) "FairHouse$Tail" "leader" "LFairHouse$Spin;") ∈ lw_all := lw_g (lw_at lw_m6 118 rfl) rfl
theorem q1437 : (Jvm.Cond.fieldLink "FairHouse$Tail" (21 : Nat) "FairHouse$Tail" "bench" "LFairHouse$Bench;") ∈ lw_all := lw_g (lw_at lw_m6 119 rfl) rfl
theorem q1438 : (Jvm.Cond.laysFinal "FairHouse$Tail" "FairHouse$Tail" "spin" "LFairHouse$Spin;") ∈ lw_all := lw_g (lw_at lw_m6 120 rfl) rfl
theorem q1439 : (Jvm.Cond.soleField "FairHouse$Tail" "spin") ∈ lw_all := lw_g (lw_at lw_m6 121 rfl) rfl
theorem q1440 : (Jvm.Cond.laysFinal "FairHouse$Tail" "FairHouse$Tail" "leader" "LFairHouse$Spin;") ∈ lw_all := lw_g (lw_at lw_m6 122 rfl) rfl
theorem q1441 : (Jvm.Cond.soleField "FairHouse$Tail" "leader") ∈ lw_all := lw_g (lw_at lw_m6 123 rfl) rfl
theorem q1442 : (Jvm.Cond.laysFinal "FairHouse$Tail" "FairHouse$Tail" "bench" "LFairHouse$Bench;") ∈ lw_all := lw_g (lw_at lw_m6 124 rfl) rfl
theorem q1443 : (Jvm.Cond.soleField "FairHouse$Tail" "bench") ∈ lw_all := lw_g (lw_at lw_m6 125 rfl) rfl
theorem q1444 : (Jvm.Cond.laysFinal "FairHouse$Tail" "FairHouse$Ride" "kind" "I") ∈ lw_all := lw_g (lw_at lw_m6 126 rfl) rfl
theorem q1445 : (Jvm.Cond.laysFinal "FairHouse$Tail" "FairHouse$Ride" "script" "LFairHouse$Script;") ∈ lw_all := lw_g (lw_at lw_m6 127 rfl) rfl
theorem q1446 : (Jvm.Cond.lays "FairHouse$Tail" "FairHouse$Ride" "wear" "I") ∈ lw_all := lw_g (lw_at lw_m6 128 rfl) rfl
theorem q1447 : (Jvm.Cond.superclass "FairHouse$Tail" "FairHouse$Ride") ∈ lw_all := lw_g (lw_at lw_m6 129 rfl) rfl
theorem q1848 : (Jvm.Cond.castable "FairHouse$Tail" "FairHouse$Seats") ∈ lw_tbl := lw_at lw_m8 50 rfl
theorem q1849 : (Jvm.Cond.selects "FairHouse$Tail" ({ cls := "FairHouse$Seats", name := "bench", desc := "()LFairHouse$Bench;" } : Jvm.MethodName) ({ cls := "FairHouse$Tail", name := "bench", desc := "()LFairHouse$Bench;" } : Jvm.MethodName)) ∈ lw_all := lw_g (lw_at lw_m8 51 rfl) rfl
theorem q1850 : (Jvm.Cond.unhidden "FairHouse$Tail" "bench" "()LFairHouse$Bench;") ∈ lw_tbl := lw_at lw_m8 52 rfl
theorem q1851 : (Jvm.Cond.instanceMethod ({ cls := "FairHouse$Tail", name := "bench", desc := "()LFairHouse$Bench;" } : Jvm.MethodName)) ∈ lw_all := lw_g (lw_at lw_m8 53 rfl) rfl
theorem q1852 : (Jvm.Cond.publicMethod ({ cls := "FairHouse$Tail", name := "bench", desc := "()LFairHouse$Bench;" } : Jvm.MethodName)) ∈ lw_tbl := lw_at lw_m8 54 rfl
theorem q1853 : (Jvm.Cond.code ({ cls := "FairHouse$Tail", name := "bench", desc := "()LFairHouse$Bench;" } : Jvm.MethodName) prog_34_method_4_code (1 : Nat) (Option.some (Jvm.ClassFile.FieldType.object "FairHouse$Bench"))) ∈ lw_all := lw_g (lw_at lw_m8 55 rfl) rfl
theorem q2134 : (Jvm.Cond.unhidden "FairHouse$Tail" "isStill" "()Z") ∈ lw_tbl := lw_at lw_m9 96 rfl
theorem q2150 : (Jvm.Cond.castable "FairHouse$Tail" "FairHouse$Machine") ∈ lw_tbl := lw_at lw_m9 112 rfl
theorem q2152 : (Jvm.Cond.unhidden "FairHouse$Tail" "isCalm" "()Z") ∈ lw_tbl := lw_at lw_m9 114 rfl
theorem q2185 : (Jvm.Cond.unhidden "FairHouse$Tail" "board" "(I)I") ∈ lw_tbl := lw_at lw_m9 147 rfl
theorem q2278 : (Jvm.Cond.unhidden "FairHouse$Tail" "turn" "()V") ∈ lw_tbl := lw_at lw_m10 0 rfl
theorem q2314 : (Jvm.Cond.unhidden "FairHouse$Tail" "ease" "()V") ∈ lw_tbl := lw_at lw_m10 36 rfl
theorem q2320 : (Jvm.Cond.castable "FairHouse$Tail" "FairHouse$Hitched") ∈ lw_tbl := lw_at lw_m10 42 rfl
theorem q2325 : (Jvm.Cond.selects "FairHouse$Tail" ({ cls := "FairHouse$Hitched", name := "leader", desc := "()LFairHouse$Spin;" } : Jvm.MethodName) ({ cls := "FairHouse$Tail", name := "leader", desc := "()LFairHouse$Spin;" } : Jvm.MethodName)) ∈ lw_all := lw_g (lw_at lw_m10 47 rfl) rfl
theorem q2326 : (Jvm.Cond.unhidden "FairHouse$Tail" "leader" "()LFairHouse$Spin;") ∈ lw_tbl := lw_at lw_m10 48 rfl
theorem q2327 : (Jvm.Cond.instanceMethod ({ cls := "FairHouse$Tail", name := "leader", desc := "()LFairHouse$Spin;" } : Jvm.MethodName)) ∈ lw_all := lw_g (lw_at lw_m10 49 rfl) rfl
theorem q2328 : (Jvm.Cond.publicMethod ({ cls := "FairHouse$Tail", name := "leader", desc := "()LFairHouse$Spin;" } : Jvm.MethodName)) ∈ lw_tbl := lw_at lw_m10 50 rfl
theorem q2329 : (Jvm.Cond.code ({ cls := "FairHouse$Tail", name := "leader", desc := "()LFairHouse$Spin;" } : Jvm.MethodName) prog_34_method_3_code (1 : Nat) (Option.some (Jvm.ClassFile.FieldType.object "FairHouse$Spin"))) ∈ lw_all := lw_g (lw_at lw_m10 51 rfl) rfl
theorem q2424 : (Jvm.Cond.unhidden "FairHouse$Tail" "pull" "()I") ∈ lw_tbl := lw_at lw_m10 146 rfl
theorem q2452 : (Jvm.Cond.unhidden "FairHouse$Tail" "draw" "()I") ∈ lw_tbl := lw_at lw_m10 174 rfl
theorem q2506 : (Jvm.Cond.unhidden "FairHouse$Tail" "limit" "()I") ∈ lw_tbl := lw_at lw_m10 228 rfl
theorem q2554 : (Jvm.Cond.unhidden "FairHouse$Tail" "tear" "()I") ∈ lw_tbl := lw_at lw_m11 36 rfl
theorem q2629 : (Jvm.Cond.unhidden "FairHouse$Tail" "hum" "()I") ∈ lw_tbl := lw_at lw_m11 111 rfl
theorem q2643 : (Jvm.Cond.unhidden "FairHouse$Tail" "noise" "()I") ∈ lw_tbl := lw_at lw_m11 125 rfl
theorem q3399 : (Jvm.Cond.castable "FairHouse$Tail" "FairHouse$Ride") ∈ lw_tbl := lw_at lw_m14 161 rfl
theorem q3435 : (Jvm.Cond.castable "FairHouse$Tail" "java/lang/Object") ∈ lw_tbl := lw_at lw_m14 197 rfl
theorem q164 : (Jvm.Cond.initialized "FairHouse$Act") ∈ lw_all := lw_g (lw_at lw_m1 46 rfl) rfl
theorem q944 : (Jvm.Cond.selects "FairHouse$Act" ({ cls := "java/lang/Object", name := "getClass", desc := "()Ljava/lang/Class;" } : Jvm.MethodName) ({ cls := "java/lang/Object", name := "getClass", desc := "()Ljava/lang/Class;" } : Jvm.MethodName)) ∈ lw_all := lw_g (lw_at lw_m4 106 rfl) rfl
theorem q1474 : (Jvm.Cond.instantiable "FairHouse$Act" (6 : Nat)) ∈ lw_all := lw_g (lw_at lw_m6 156 rfl) rfl
theorem q1476 : (Jvm.Cond.instanceMethod ({ cls := "FairHouse$Act", name := "<init>", desc := "(II)V" } : Jvm.MethodName)) ∈ lw_all := lw_g (lw_at lw_m6 158 rfl) rfl
theorem q1477 : (Jvm.Cond.code ({ cls := "FairHouse$Act", name := "<init>", desc := "(II)V" } : Jvm.MethodName) prog_2_method_1_code (3 : Nat) (Option.none : Option Jvm.ClassFile.FieldType)) ∈ lw_all := lw_g (lw_at lw_m6 159 rfl) rfl
theorem q1478 : (Jvm.Cond.methodLink "FairHouse$Act" (3 : Nat) ({ cls := "java/lang/Object", name := "<init>", desc := "()V" } : Jvm.MethodName)) ∈ lw_all := lw_g (lw_at lw_m6 160 rfl) rfl
theorem q1479 : (Jvm.Cond.fieldLink "FairHouse$Act" (9 : Nat) "FairHouse$Act" "op" "I") ∈ lw_all := lw_g (lw_at lw_m6 161 rfl) rfl
theorem q1483 : (Jvm.Cond.fieldLink "FairHouse$Act" (15 : Nat) "FairHouse$Act" "at" "I") ∈ lw_all := lw_g (lw_at lw_m6 165 rfl) rfl
theorem q1495 : (Jvm.Cond.laysFinal "FairHouse$Act" "FairHouse$Act" "op" "I") ∈ lw_all := lw_g (lw_at lw_m6 177 rfl) rfl
theorem q1496 : (Jvm.Cond.soleField "FairHouse$Act" "op") ∈ lw_all := lw_g (lw_at lw_m6 178 rfl) rfl
theorem q1497 : (Jvm.Cond.laysFinal "FairHouse$Act" "FairHouse$Act" "at" "I") ∈ lw_all := lw_g (lw_at lw_m6 179 rfl) rfl
theorem q1498 : (Jvm.Cond.soleField "FairHouse$Act" "at") ∈ lw_all := lw_g (lw_at lw_m6 180 rfl) rfl
theorem q1499 : (Jvm.Cond.lays "FairHouse$Act" "FairHouse$Act" "expr" "LFairHouse$Expr;") ∈ lw_all := lw_g (lw_at lw_m6 181 rfl) rfl
theorem q1500 : (Jvm.Cond.soleField "FairHouse$Act" "expr") ∈ lw_all := lw_g (lw_at lw_m6 182 rfl) rfl
theorem q1501 : (Jvm.Cond.lays "FairHouse$Act" "FairHouse$Act" "cond" "LFairHouse$Cond;") ∈ lw_all := lw_g (lw_at lw_m6 183 rfl) rfl
theorem q1502 : (Jvm.Cond.soleField "FairHouse$Act" "cond") ∈ lw_all := lw_g (lw_at lw_m6 184 rfl) rfl
theorem q1503 : (Jvm.Cond.lays "FairHouse$Act" "FairHouse$Act" "number" "I") ∈ lw_all := lw_g (lw_at lw_m6 185 rfl) rfl
theorem q1504 : (Jvm.Cond.soleField "FairHouse$Act" "number") ∈ lw_all := lw_g (lw_at lw_m6 186 rfl) rfl
theorem q1505 : (Jvm.Cond.lays "FairHouse$Act" "FairHouse$Act" "to" "I") ∈ lw_all := lw_g (lw_at lw_m6 187 rfl) rfl
theorem q1506 : (Jvm.Cond.soleField "FairHouse$Act" "to") ∈ lw_all := lw_g (lw_at lw_m6 188 rfl) rfl
theorem q1507 : (Jvm.Cond.superclass "FairHouse$Act" "java/lang/Object") ∈ lw_all := lw_g (lw_at lw_m6 189 rfl) rfl
theorem q3436 : (Jvm.Cond.castable "FairHouse$Act" "java/lang/Object") ∈ lw_tbl := lw_at lw_m14 198 rfl
theorem q165 : (Jvm.Cond.initialized "FairHouse$Expr") ∈ lw_all := lw_g (lw_at lw_m1 47 rfl) rfl
theorem q1536 : (Jvm.Cond.instanceMethod ({ cls := "FairHouse$Expr", name := "<init>", desc := "()V" } : Jvm.MethodName)) ∈ lw_all := lw_g (lw_at lw_m6 218 rfl) rfl
theorem q1537 : (Jvm.Cond.code ({ cls := "FairHouse$Expr", name := "<init>", desc := "()V" } : Jvm.MethodName) prog_9_method_1_code (1 : Nat) (Option.none : Option Jvm.ClassFile.FieldType)) ∈ lw_all := lw_g (lw_at lw_m6 219 rfl) rfl
theorem q1538 : (Jvm.Cond.methodLink "FairHouse$Expr" (1 : Nat) ({ cls := "java/lang/Object", name := "<init>", desc := "()V" } : Jvm.MethodName)) ∈ lw_all := lw_g (lw_at lw_m6 220 rfl) rfl
theorem q2020 : (Jvm.Cond.declares ({ cls := "FairHouse$Expr", name := "of", desc := "(LFairHouse;LFairHouse$Ride;)I" } : Jvm.MethodName)) ∈ lw_tbl := lw_at lw_m8 222 rfl
theorem q2021 : (Jvm.Cond.sameMethod "FairHouse$Expr" "FairHouse$Expr" "of" "(LFairHouse;LFairHouse$Ride;)I") ∈ lw_all := lw_g (lw_at lw_m8 223 rfl) rfl
theorem q166 : (Jvm.Cond.initialized "FairHouse$Minus") ∈ lw_all := lw_g (lw_at lw_m1 48 rfl) rfl
theorem q954 : (Jvm.Cond.selects "FairHouse$Minus" ({ cls := "java/lang/Object", name := "getClass", desc := "()Ljava/lang/Class;" } : Jvm.MethodName) ({ cls := "java/lang/Object", name := "getClass", desc := "()Ljava/lang/Class;" } : Jvm.MethodName)) ∈ lw_all := lw_g (lw_at lw_m4 116 rfl) rfl
theorem q1531 : (Jvm.Cond.instantiable "FairHouse$Minus" (1 : Nat)) ∈ lw_all := lw_g (lw_at lw_m6 213 rfl) rfl
theorem q1533 : (Jvm.Cond.instanceMethod ({ cls := "FairHouse$Minus", name := "<init>", desc := "(LFairHouse$Expr;)V" } : Jvm.MethodName)) ∈ lw_all := lw_g (lw_at lw_m6 215 rfl) rfl
theorem q1534 : (Jvm.Cond.code ({ cls := "FairHouse$Minus", name := "<init>", desc := "(LFairHouse$Expr;)V" } : Jvm.MethodName) prog_18_method_1_code (2 : Nat) (Option.none : Option Jvm.ClassFile.FieldType)) ∈ lw_all := lw_g (lw_at lw_m6 216 rfl) rfl
theorem q1535 : (Jvm.Cond.methodLinkNest "FairHouse$Minus" (1 : Nat) ({ cls := "FairHouse$Expr", name := "<init>", desc := "()V" } : Jvm.MethodName) "FairHouse") ∈ lw_tbl := lw_at lw_m6 217 rfl
theorem q1539 : (Jvm.Cond.fieldLink "FairHouse$Minus" (7 : Nat) "FairHouse$Minus" "of" "LFairHouse$Expr;") ∈ lw_all := lw_g (lw_at lw_m6 221 rfl) rfl
theorem q1540 : (Jvm.Cond.laysFinal "FairHouse$Minus" "FairHouse$Minus" "of" "LFairHouse$Expr;") ∈ lw_all := lw_g (lw_at lw_m6 222 rfl) rfl
theorem q1541 : (Jvm.Cond.soleField "FairHouse$Minus" "of") ∈ lw_all := lw_g (lw_at lw_m6 223 rfl) rfl
theorem q1542 : (Jvm.Cond.superclass "FairHouse$Minus" "FairHouse$Expr") ∈ lw_all := lw_g (lw_at lw_m6 224 rfl) rfl
theorem q2028 : (Jvm.Cond.instanceMethod ({ cls := "FairHouse$Minus", name := "of", desc := "(LFairHouse;LFairHouse$Ride;)I" } : Jvm.MethodName)) ∈ lw_all := lw_g (lw_at lw_m8 230 rfl) rfl
theorem q2029 : (Jvm.Cond.code ({ cls := "FairHouse$Minus", name := "of", desc := "(LFairHouse;LFairHouse$Ride;)I" } : Jvm.MethodName) prog_18_method_2_code (3 : Nat) (Option.some Jvm.ClassFile.FieldType.int)) ∈ lw_all := lw_g (lw_at lw_m8 231 rfl) rfl
theorem q2030 : (Jvm.Cond.methodLink "FairHouse$Minus" (13 : Nat) ({ cls := "FairHouse$Expr", name := "of", desc := "(LFairHouse;LFairHouse$Ride;)I" } : Jvm.MethodName)) ∈ lw_all := lw_g (lw_at lw_m8 232 rfl) rfl
theorem q2043 : (Jvm.Cond.selects "FairHouse$Minus" ({ cls := "FairHouse$Expr", name := "of", desc := "(LFairHouse;LFairHouse$Ride;)I" } : Jvm.MethodName) ({ cls := "FairHouse$Minus", name := "of", desc := "(LFairHouse;LFairHouse$Ride;)I" } : Jvm.MethodName)) ∈ lw_all := lw_g (lw_at lw_m9 5 rfl) rfl
theorem q3404 : (Jvm.Cond.castable "FairHouse$Minus" "FairHouse$Expr") ∈ lw_tbl := lw_at lw_m14 166 rfl
theorem q3437 : (Jvm.Cond.castable "FairHouse$Minus" "java/lang/Object") ∈ lw_tbl := lw_at lw_m14 199 rfl
theorem q167 : (Jvm.Cond.initialized "FairHouse$Num") ∈ lw_all := lw_g (lw_at lw_m1 49 rfl) rfl
theorem q956 : (Jvm.Cond.selects "FairHouse$Num" ({ cls := "java/lang/Object", name := "getClass", desc := "()Ljava/lang/Class;" } : Jvm.MethodName) ({ cls := "java/lang/Object", name := "getClass", desc := "()Ljava/lang/Class;" } : Jvm.MethodName)) ∈ lw_all := lw_g (lw_at lw_m4 118 rfl) rfl
theorem q1544 : (Jvm.Cond.instantiable "FairHouse$Num" (1 : Nat)) ∈ lw_all := lw_g (lw_at lw_m6 226 rfl) rfl
theorem q1546 : (Jvm.Cond.instanceMethod ({ cls := "FairHouse$Num", name := "<init>", desc := "(I)V" } : Jvm.MethodName)) ∈ lw_all := lw_g (lw_at lw_m6 228 rfl) rfl
theorem q1547 : (Jvm.Cond.code ({ cls := "FairHouse$Num", name := "<init>", desc := "(I)V" } : Jvm.MethodName) prog_20_method_1_code (2 : Nat) (Option.none : Option Jvm.ClassFile.FieldType)) ∈ lw_all := lw_g (lw_at lw_m6 229 rfl) rfl
theorem q1548 : (Jvm.Cond.methodLinkNest "FairHouse$Num" (1 : Nat) ({ cls := "FairHouse$Expr", name := "<init>", desc := "()V" } : Jvm.MethodName) "FairHouse") ∈ lw_tbl := lw_at lw_m6 230 rfl
theorem q1549 : (Jvm.Cond.fieldLink "FairHouse$Num" (7 : Nat) "FairHouse$Num" "v" "I") ∈ lw_all := lw_g (lw_at lw_m6 231 rfl) rfl
theorem q1550 : (Jvm.Cond.laysFinal "FairHouse$Num" "FairHouse$Num" "v" "I") ∈ lw_all := lw_g (lw_at lw_m6 232 rfl) rfl
theorem q1551 : (Jvm.Cond.soleField "FairHouse$Num" "v") ∈ lw_all := lw_g (lw_at lw_m6 233 rfl) rfl
theorem q1552 : (Jvm.Cond.superclass "FairHouse$Num" "FairHouse$Expr") ∈ lw_all := lw_g (lw_at lw_m6 234 rfl) rfl
theorem q2031 : (Jvm.Cond.instanceMethod ({ cls := "FairHouse$Num", name := "of", desc := "(LFairHouse;LFairHouse$Ride;)I" } : Jvm.MethodName)) ∈ lw_all := lw_g (lw_at lw_m8 233 rfl) rfl
theorem q2032 : (Jvm.Cond.code ({ cls := "FairHouse$Num", name := "of", desc := "(LFairHouse;LFairHouse$Ride;)I" } : Jvm.MethodName) prog_20_method_2_code (3 : Nat) (Option.some Jvm.ClassFile.FieldType.int)) ∈ lw_all := lw_g (lw_at lw_m8 234 rfl) rfl
theorem q2044 : (Jvm.Cond.selects "FairHouse$Num" ({ cls := "FairHouse$Expr", name := "of", desc := "(LFairHouse;LFairHouse$Ride;)I" } : Jvm.MethodName) ({ cls := "FairHouse$Num", name := "of", desc := "(LFairHouse;LFairHouse$Ride;)I" } : Jvm.MethodName)) ∈ lw_all := lw_g (lw_at lw_m9 6 rfl) rfl
theorem q3405 : (Jvm.Cond.castable "FairHouse$Num" "FairHouse$Expr") ∈ lw_tbl := lw_at lw_m14 167 rfl
theorem q3438 : (Jvm.Cond.castable "FairHouse$Num" "java/lang/Object") ∈ lw_tbl := lw_at lw_m14 200 rfl
theorem q168 : (Jvm.Cond.initialized "FairHouse$Reading") ∈ lw_all := lw_g (lw_at lw_m1 50 rfl) rfl
theorem q959 : (Jvm.Cond.selects "FairHouse$Reading" ({ cls := "java/lang/Object", name := "getClass", desc := "()Ljava/lang/Class;" } : Jvm.MethodName) ({ cls := "java/lang/Object", name := "getClass", desc := "()Ljava/lang/Class;" } : Jvm.MethodName)) ∈ lw_all := lw_g (lw_at lw_m4 121 rfl) rfl
theorem q1562 : (Jvm.Cond.instantiable "FairHouse$Reading" (4 : Nat)) ∈ lw_all := lw_g (lw_at lw_m7 4 rfl) rfl
theorem q1564 : (Jvm.Cond.instanceMethod ({ cls := "FairHouse$Reading", name := "<init>", desc := "(IJI)V" } : Jvm.MethodName)) ∈ lw_all := lw_g (lw_at lw_m7 6 rfl) rfl
theorem q1565 : (Jvm.Cond.code ({ cls := "FairHouse$Reading", name := "<init>", desc := "(IJI)V" } : Jvm.MethodName) prog_23_method_1_code (5 : Nat) (Option.none : Option Jvm.ClassFile.FieldType)) ∈ lw_all := lw_g (lw_at lw_m7 7 rfl) rfl
theorem q1566 : (Jvm.Cond.methodLinkNest "FairHouse$Reading" (1 : Nat) ({ cls := "FairHouse$Expr", name := "<init>", desc := "()V" } : Jvm.MethodName) "FairHouse") ∈ lw_tbl := lw_at lw_m7 8 rfl
theorem q1567 : (Jvm.Cond.fieldLink "FairHouse$Reading" (7 : Nat) "FairHouse$Reading" "what" "I") ∈ lw_all := lw_g (lw_at lw_m7 9 rfl) rfl
theorem q1568 : (Jvm.Cond.fieldLink "FairHouse$Reading" (17 : Nat) "FairHouse$Reading" "at" "I") ∈ lw_all := lw_g (lw_at lw_m7 10 rfl) rfl
theorem q1570 : (Jvm.Cond.fieldLink "FairHouse$Reading" (13 : Nat) "FairHouse$Reading" "name" "J") ∈ lw_all := lw_g (lw_at lw_m7 12 rfl) rfl
theorem q1572 : (Jvm.Cond.fieldLink "FairHouse$Reading" (20 : Nat) "FairHouse$Reading" "ride" "LFairHouse$Ride;") ∈ lw_all := lw_g (lw_at lw_m7 14 rfl) rfl
theorem q1574 : (Jvm.Cond.laysFinal "FairHouse$Reading" "FairHouse$Reading" "what" "I") ∈ lw_all := lw_g (lw_at lw_m7 16 rfl) rfl
theorem q1575 : (Jvm.Cond.soleField "FairHouse$Reading" "what") ∈ lw_all := lw_g (lw_at lw_m7 17 rfl) rfl
theorem q1576 : (Jvm.Cond.laysFinal "FairHouse$Reading" "FairHouse$Reading" "at" "I") ∈ lw_all := lw_g (lw_at lw_m7 18 rfl) rfl
theorem q1577 : (Jvm.Cond.soleField "FairHouse$Reading" "at") ∈ lw_all := lw_g (lw_at lw_m7 19 rfl) rfl
theorem q1578 : (Jvm.Cond.laysFinal "FairHouse$Reading" "FairHouse$Reading" "name" "J") ∈ lw_all := lw_g (lw_at lw_m7 20 rfl) rfl
theorem q1579 : (Jvm.Cond.soleField "FairHouse$Reading" "name") ∈ lw_all := lw_g (lw_at lw_m7 21 rfl) rfl
theorem q1580 : (Jvm.Cond.lays "FairHouse$Reading" "FairHouse$Reading" "ride" "LFairHouse$Ride;") ∈ lw_all := lw_g (lw_at lw_m7 22 rfl) rfl
theorem q1581 : (Jvm.Cond.soleField "FairHouse$Reading" "ride") ∈ lw_all := lw_g (lw_at lw_m7 23 rfl) rfl
theorem q1582 : (Jvm.Cond.superclass "FairHouse$Reading" "FairHouse$Expr") ∈ lw_all := lw_g (lw_at lw_m7 24 rfl) rfl
theorem q2033 : (Jvm.Cond.instanceMethod ({ cls := "FairHouse$Reading", name := "of", desc := "(LFairHouse;LFairHouse$Ride;)I" } : Jvm.MethodName)) ∈ lw_all := lw_g (lw_at lw_m8 235 rfl) rfl
theorem q2034 : (Jvm.Cond.code ({ cls := "FairHouse$Reading", name := "of", desc := "(LFairHouse;LFairHouse$Ride;)I" } : Jvm.MethodName) prog_23_method_2_code (3 : Nat) (Option.some Jvm.ClassFile.FieldType.int)) ∈ lw_all := lw_g (lw_at lw_m8 236 rfl) rfl
theorem q2035 : (Jvm.Cond.methodLinkNest "FairHouse$Reading" (24 : Nat) ({ cls := "FairHouse", name := "measured", desc := "(LFairHouse$Ride;I)I" } : Jvm.MethodName) "FairHouse") ∈ lw_tbl := lw_at lw_m8 237 rfl
theorem q2045 : (Jvm.Cond.selects "FairHouse$Reading" ({ cls := "FairHouse$Expr", name := "of", desc := "(LFairHouse;LFairHouse$Ride;)I" } : Jvm.MethodName) ({ cls := "FairHouse$Reading", name := "of", desc := "(LFairHouse;LFairHouse$Ride;)I" } : Jvm.MethodName)) ∈ lw_all := lw_g (lw_at lw_m9 7 rfl) rfl
theorem q3406 : (Jvm.Cond.castable "FairHouse$Reading" "FairHouse$Expr") ∈ lw_tbl := lw_at lw_m14 168 rfl
theorem q3439 : (Jvm.Cond.castable "FairHouse$Reading" "java/lang/Object") ∈ lw_tbl := lw_at lw_m14 201 rfl
theorem q169 : (Jvm.Cond.initialized "FairHouse$Register") ∈ lw_all := lw_g (lw_at lw_m1 51 rfl) rfl
theorem q960 : (Jvm.Cond.selects "FairHouse$Register" ({ cls := "java/lang/Object", name := "getClass", desc := "()Ljava/lang/Class;" } : Jvm.MethodName) ({ cls := "java/lang/Object", name := "getClass", desc := "()Ljava/lang/Class;" } : Jvm.MethodName)) ∈ lw_all := lw_g (lw_at lw_m4 122 rfl) rfl
theorem q1023 : (Jvm.Cond.fieldLinkNest "FairHouse$Register" (19 : Nat) "FairHouse$Script" "registers" "[I" "FairHouse") ∈ lw_tbl := lw_at lw_m4 185 rfl
theorem q1137 : (Jvm.Cond.fieldLink "FairHouse$Register" (13 : Nat) "FairHouse$Ride" "script" "LFairHouse$Script;") ∈ lw_all := lw_g (lw_at lw_m5 59 rfl) rfl
theorem q1584 : (Jvm.Cond.instantiable "FairHouse$Register" (1 : Nat)) ∈ lw_all := lw_g (lw_at lw_m7 26 rfl) rfl
theorem q1586 : (Jvm.Cond.instanceMethod ({ cls := "FairHouse$Register", name := "<init>", desc := "(I)V" } : Jvm.MethodName)) ∈ lw_all := lw_g (lw_at lw_m7 28 rfl) rfl
theorem q1587 : (Jvm.Cond.code ({ cls := "FairHouse$Register", name := "<init>", desc := "(I)V" } : Jvm.MethodName) prog_24_method_1_code (2 : Nat) (Option.none : Option Jvm.ClassFile.FieldType)) ∈ lw_all := lw_g (lw_at lw_m7 29 rfl) rfl
theorem q1588 : (Jvm.Cond.methodLinkNest "FairHouse$Register" (1 : Nat) ({ cls := "FairHouse$Expr", name := "<init>", desc := "()V" } : Jvm.MethodName) "FairHouse") ∈ lw_tbl := lw_at lw_m7 30 rfl
theorem q1589 : (Jvm.Cond.fieldLink "FairHouse$Register" (7 : Nat) "FairHouse$Register" "k" "I") ∈ lw_all := lw_g (lw_at lw_m7 31 rfl) rfl
theorem q1590 : (Jvm.Cond.laysFinal "FairHouse$Register" "FairHouse$Register" "k" "I") ∈ lw_all := lw_g (lw_at lw_m7 32 rfl) rfl
theorem q1591 : (Jvm.Cond.soleField "FairHouse$Register" "k") ∈ lw_all := lw_g (lw_at lw_m7 33 rfl) rfl
theorem q1592 : (Jvm.Cond.superclass "FairHouse$Register" "FairHouse$Expr") ∈ lw_all := lw_g (lw_at lw_m7 34 rfl) rfl
theorem q2038 : (Jvm.Cond.instanceMethod ({ cls := "FairHouse$Register", name := "of", desc := "(LFairHouse;LFairHouse$Ride;)I" } : Jvm.MethodName)) ∈ lw_all := lw_g (lw_at lw_m9 0 rfl) rfl
theorem q2039 : (Jvm.Cond.code ({ cls := "FairHouse$Register", name := "of", desc := "(LFairHouse;LFairHouse$Ride;)I" } : Jvm.MethodName) prog_24_method_2_code (3 : Nat) (Option.some Jvm.ClassFile.FieldType.int)) ∈ lw_all := lw_g (lw_at lw_m9 1 rfl) rfl
theorem q2046 : (Jvm.Cond.selects "FairHouse$Register" ({ cls := "FairHouse$Expr", name := "of", desc := "(LFairHouse;LFairHouse$Ride;)I" } : Jvm.MethodName) ({ cls := "FairHouse$Register", name := "of", desc := "(LFairHouse;LFairHouse$Ride;)I" } : Jvm.MethodName)) ∈ lw_all := lw_g (lw_at lw_m9 8 rfl) rfl
theorem q3407 : (Jvm.Cond.castable "FairHouse$Register" "FairHouse$Expr") ∈ lw_tbl := lw_at lw_m14 169 rfl
theorem q3440 : (Jvm.Cond.castable "FairHouse$Register" "java/lang/Object") ∈ lw_tbl := lw_at lw_m14 202 rfl
theorem q170 : (Jvm.Cond.initialized "FairHouse$Given") ∈ lw_all := lw_g (lw_at lw_m1 52 rfl) rfl
theorem q192 : (Jvm.Cond.fieldLinkNest "FairHouse$Given" (24 : Nat) "FairHouse" "clock" "I" "FairHouse") ∈ lw_tbl := lw_at lw_m1 74 rfl
theorem q194 : (Jvm.Cond.fieldLinkNest "FairHouse$Given" (29 : Nat) "FairHouse" "wind" "I" "FairHouse") ∈ lw_tbl := lw_at lw_m1 76 rfl
theorem q951 : (Jvm.Cond.selects "FairHouse$Given" ({ cls := "java/lang/Object", name := "getClass", desc := "()Ljava/lang/Class;" } : Jvm.MethodName) ({ cls := "java/lang/Object", name := "getClass", desc := "()Ljava/lang/Class;" } : Jvm.MethodName)) ∈ lw_all := lw_g (lw_at lw_m4 113 rfl) rfl
theorem q1034 : (Jvm.Cond.fieldLinkNest "FairHouse$Given" (19 : Nat) "FairHouse$Script" "why" "I" "FairHouse") ∈ lw_tbl := lw_at lw_m4 196 rfl
theorem q1138 : (Jvm.Cond.fieldLink "FairHouse$Given" (13 : Nat) "FairHouse$Ride" "script" "LFairHouse$Script;") ∈ lw_all := lw_g (lw_at lw_m5 60 rfl) rfl
theorem q1594 : (Jvm.Cond.instantiable "FairHouse$Given" (1 : Nat)) ∈ lw_all := lw_g (lw_at lw_m7 36 rfl) rfl
theorem q1596 : (Jvm.Cond.instanceMethod ({ cls := "FairHouse$Given", name := "<init>", desc := "(I)V" } : Jvm.MethodName)) ∈ lw_all := lw_g (lw_at lw_m7 38 rfl) rfl
theorem q1597 : (Jvm.Cond.code ({ cls := "FairHouse$Given", name := "<init>", desc := "(I)V" } : Jvm.MethodName) prog_11_method_1_code (2 : Nat) (Option.none : Option Jvm.ClassFile.FieldType)) ∈ lw_all := lw_g (lw_at lw_m7 39 rfl) rfl
theorem q1598 : (Jvm.Cond.methodLinkNest "FairHouse$Given" (1 : Nat) ({ cls := "FairHouse$Expr", name := "<init>", desc := "()V" } : Jvm.MethodName) "FairHouse") ∈ lw_tbl := lw_at lw_m7 40 rfl
theorem q1599 : (Jvm.Cond.fieldLink "FairHouse$Given" (7 : Nat) "FairHouse$Given" "what" "I") ∈ lw_all := lw_g (lw_at lw_m7 41 rfl) rfl
theorem q1600 : (Jvm.Cond.laysFinal "FairHouse$Given" "FairHouse$Given" "what" "I") ∈ lw_all := lw_g (lw_at lw_m7 42 rfl) rfl
theorem q1601 : (Jvm.Cond.soleField "FairHouse$Given" "what") ∈ lw_all := lw_g (lw_at lw_m7 43 rfl) rfl
theorem q1602 : (Jvm.Cond.superclass "FairHouse$Given" "FairHouse$Expr") ∈ lw_all := lw_g (lw_at lw_m7 44 rfl) rfl
theorem q2026 : (Jvm.Cond.instanceMethod ({ cls := "FairHouse$Given", name := "of", desc := "(LFairHouse;LFairHouse$Ride;)I" } : Jvm.MethodName)) ∈ lw_all := lw_g (lw_at lw_m8 228 rfl) rfl
theorem q2027 : (Jvm.Cond.code ({ cls := "FairHouse$Given", name := "of", desc := "(LFairHouse;LFairHouse$Ride;)I" } : Jvm.MethodName) prog_11_method_2_code (3 : Nat) (Option.some Jvm.ClassFile.FieldType.int)) ∈ lw_all := lw_g (lw_at lw_m8 229 rfl) rfl
theorem q2042 : (Jvm.Cond.selects "FairHouse$Given" ({ cls := "FairHouse$Expr", name := "of", desc := "(LFairHouse;LFairHouse$Ride;)I" } : Jvm.MethodName) ({ cls := "FairHouse$Given", name := "of", desc := "(LFairHouse;LFairHouse$Ride;)I" } : Jvm.MethodName)) ∈ lw_all := lw_g (lw_at lw_m9 4 rfl) rfl
theorem q3403 : (Jvm.Cond.castable "FairHouse$Given" "FairHouse$Expr") ∈ lw_tbl := lw_at lw_m14 165 rfl
theorem q3441 : (Jvm.Cond.castable "FairHouse$Given" "java/lang/Object") ∈ lw_tbl := lw_at lw_m14 203 rfl
theorem q171 : (Jvm.Cond.initialized "FairHouse$Chain") ∈ lw_all := lw_g (lw_at lw_m1 53 rfl) rfl
theorem q198 : (Jvm.Cond.fieldLinkNest "FairHouse$Chain" (46 : Nat) "FairHouse" "stall" "I" "FairHouse") ∈ lw_tbl := lw_at lw_m1 80 rfl
theorem q947 : (Jvm.Cond.selects "FairHouse$Chain" ({ cls := "java/lang/Object", name := "getClass", desc := "()Ljava/lang/Class;" } : Jvm.MethodName) ({ cls := "java/lang/Object", name := "getClass", desc := "()Ljava/lang/Class;" } : Jvm.MethodName)) ∈ lw_all := lw_g (lw_at lw_m4 109 rfl) rfl
theorem q1604 : (Jvm.Cond.instantiable "FairHouse$Chain" (3 : Nat)) ∈ lw_all := lw_g (lw_at lw_m7 46 rfl) rfl
theorem q1606 : (Jvm.Cond.instanceMethod ({ cls := "FairHouse$Chain", name := "<init>", desc := "(LFairHouse$Expr;)V" } : Jvm.MethodName)) ∈ lw_all := lw_g (lw_at lw_m7 48 rfl) rfl
theorem q1607 : (Jvm.Cond.code ({ cls := "FairHouse$Chain", name := "<init>", desc := "(LFairHouse$Expr;)V" } : Jvm.MethodName) prog_5_method_1_code (2 : Nat) (Option.none : Option Jvm.ClassFile.FieldType)) ∈ lw_all := lw_g (lw_at lw_m7 49 rfl) rfl
theorem q1608 : (Jvm.Cond.methodLinkNest "FairHouse$Chain" (3 : Nat) ({ cls := "FairHouse$Expr", name := "<init>", desc := "()V" } : Jvm.MethodName) "FairHouse") ∈ lw_tbl := lw_at lw_m7 50 rfl
theorem q1609 : (Jvm.Cond.classLink "FairHouse$Chain" (9 : Nat) "java/util/ArrayList") ∈ lw_all := lw_g (lw_at lw_m7 51 rfl) rfl
theorem q1610 : (Jvm.Cond.methodLink "FairHouse$Chain" (11 : Nat) ({ cls := "java/util/ArrayList", name := "<init>", desc := "(I)V" } : Jvm.MethodName)) ∈ lw_all := lw_g (lw_at lw_m7 52 rfl) rfl
theorem q1611 : (Jvm.Cond.fieldLink "FairHouse$Chain" (24 : Nat) "FairHouse$Chain" "first" "LFairHouse$Expr;") ∈ lw_all := lw_g (lw_at lw_m7 53 rfl) rfl
theorem q1612 : (Jvm.Cond.fieldLink "FairHouse$Chain" (14 : Nat) "FairHouse$Chain" "others" "Ljava/util/ArrayList;") ∈ lw_all := lw_g (lw_at lw_m7 54 rfl) rfl
theorem q1613 : (Jvm.Cond.fieldLink "FairHouse$Chain" (20 : Nat) "FairHouse$Chain" "signs" "[B") ∈ lw_all := lw_g (lw_at lw_m7 55 rfl) rfl
theorem q1614 : (Jvm.Cond.laysFinal "FairHouse$Chain" "FairHouse$Chain" "first" "LFairHouse$Expr;") ∈ lw_all := lw_g (lw_at lw_m7 56 rfl) rfl
theorem q1615 : (Jvm.Cond.soleField "FairHouse$Chain" "first") ∈ lw_all := lw_g (lw_at lw_m7 57 rfl) rfl
theorem q1616 : (Jvm.Cond.laysFinal "FairHouse$Chain" "FairHouse$Chain" "others" "Ljava/util/ArrayList;") ∈ lw_all := lw_g (lw_at lw_m7 58 rfl) rfl
theorem q1617 : (Jvm.Cond.soleField "FairHouse$Chain" "others") ∈ lw_all := lw_g (lw_at lw_m7 59 rfl) rfl
theorem q1618 : (Jvm.Cond.lays "FairHouse$Chain" "FairHouse$Chain" "signs" "[B") ∈ lw_all := lw_g (lw_at lw_m7 60 rfl) rfl
theorem q1619 : (Jvm.Cond.soleField "FairHouse$Chain" "signs") ∈ lw_all := lw_g (lw_at lw_m7 61 rfl) rfl
theorem q1620 : (Jvm.Cond.superclass "FairHouse$Chain" "FairHouse$Expr") ∈ lw_all := lw_g (lw_at lw_m7 62 rfl) rfl
theorem q1622 : (Jvm.Cond.instanceMethod ({ cls := "FairHouse$Chain", name := "add", desc := "(ILFairHouse$Expr;)V" } : Jvm.MethodName)) ∈ lw_all := lw_g (lw_at lw_m7 64 rfl) rfl
theorem q1623 : (Jvm.Cond.selects "FairHouse$Chain" ({ cls := "FairHouse$Chain", name := "add", desc := "(ILFairHouse$Expr;)V" } : Jvm.MethodName) ({ cls := "FairHouse$Chain", name := "add", desc := "(ILFairHouse$Expr;)V" } : Jvm.MethodName)) ∈ lw_all := lw_g (lw_at lw_m7 65 rfl) rfl
theorem q1624 : (Jvm.Cond.code ({ cls := "FairHouse$Chain", name := "add", desc := "(ILFairHouse$Expr;)V" } : Jvm.MethodName) prog_5_method_2_code (5 : Nat) (Option.none : Option Jvm.ClassFile.FieldType)) ∈ lw_all := lw_g (lw_at lw_m7 66 rfl) rfl
theorem q1625 : (Jvm.Cond.methodLink "FairHouse$Chain" (28 : Nat) ({ cls := "java/util/ArrayList", name := "size", desc := "()I" } : Jvm.MethodName)) ∈ lw_all := lw_g (lw_at lw_m7 67 rfl) rfl
theorem q1626 : (Jvm.Cond.methodLink "FairHouse$Chain" (32 : Nat) ({ cls := "java/lang/System", name := "arraycopy", desc := "(Ljava/lang/Object;ILjava/lang/Object;II)V" } : Jvm.MethodName)) ∈ lw_all := lw_g (lw_at lw_m7 68 rfl) rfl
theorem q1627 : (Jvm.Cond.methodLink "FairHouse$Chain" (38 : Nat) ({ cls := "java/util/ArrayList", name := "add", desc := "(Ljava/lang/Object;)Z" } : Jvm.MethodName)) ∈ lw_all := lw_g (lw_at lw_m7 69 rfl) rfl
theorem q2022 : (Jvm.Cond.selects "FairHouse$Chain" ({ cls := "FairHouse$Expr", name := "of", desc := "(LFairHouse;LFairHouse$Ride;)I" } : Jvm.MethodName) ({ cls := "FairHouse$Chain", name := "of", desc := "(LFairHouse;LFairHouse$Ride;)I" } : Jvm.MethodName)) ∈ lw_all := lw_g (lw_at lw_m8 224 rfl) rfl
theorem q2023 : (Jvm.Cond.instanceMethod ({ cls := "FairHouse$Chain", name := "of", desc := "(LFairHouse;LFairHouse$Ride;)I" } : Jvm.MethodName)) ∈ lw_all := lw_g (lw_at lw_m8 225 rfl) rfl
theorem q2024 : (Jvm.Cond.code ({ cls := "FairHouse$Chain", name := "of", desc := "(LFairHouse;LFairHouse$Ride;)I" } : Jvm.MethodName) prog_5_method_3_code (7 : Nat) (Option.some Jvm.ClassFile.FieldType.int)) ∈ lw_all := lw_g (lw_at lw_m8 226 rfl) rfl
theorem q2025 : (Jvm.Cond.methodLink "FairHouse$Chain" (42 : Nat) ({ cls := "FairHouse$Expr", name := "of", desc := "(LFairHouse;LFairHouse$Ride;)I" } : Jvm.MethodName)) ∈ lw_all := lw_g (lw_at lw_m8 227 rfl) rfl
theorem q2040 : (Jvm.Cond.methodLink "FairHouse$Chain" (50 : Nat) ({ cls := "java/util/ArrayList", name := "get", desc := "(I)Ljava/lang/Object;" } : Jvm.MethodName)) ∈ lw_all := lw_g (lw_at lw_m9 2 rfl) rfl
theorem q2041 : (Jvm.Cond.classLink "FairHouse$Chain" (4 : Nat) "FairHouse$Expr") ∈ lw_all := lw_g (lw_at lw_m9 3 rfl) rfl
theorem q3402 : (Jvm.Cond.castable "FairHouse$Chain" "FairHouse$Expr") ∈ lw_tbl := lw_at lw_m14 164 rfl
theorem q3442 : (Jvm.Cond.castable "FairHouse$Chain" "java/lang/Object") ∈ lw_tbl := lw_at lw_m14 204 rfl
theorem q172 : (Jvm.Cond.initialized "FairHouse$Cond") ∈ lw_all := lw_g (lw_at lw_m1 54 rfl) rfl
theorem q1652 : (Jvm.Cond.instanceMethod ({ cls := "FairHouse$Cond", name := "<init>", desc := "()V" } : Jvm.MethodName)) ∈ lw_all := lw_g (lw_at lw_m7 94 rfl) rfl
theorem q1653 : (Jvm.Cond.code ({ cls := "FairHouse$Cond", name := "<init>", desc := "()V" } : Jvm.MethodName) prog_8_method_1_code (1 : Nat) (Option.none : Option Jvm.ClassFile.FieldType)) ∈ lw_all := lw_g (lw_at lw_m7 95 rfl) rfl
theorem q1654 : (Jvm.Cond.methodLink "FairHouse$Cond" (1 : Nat) ({ cls := "java/lang/Object", name := "<init>", desc := "()V" } : Jvm.MethodName)) ∈ lw_all := lw_g (lw_at lw_m7 96 rfl) rfl
theorem q2193 : (Jvm.Cond.declares ({ cls := "FairHouse$Cond", name := "holds", desc := "(LFairHouse;LFairHouse$Ride;)Z" } : Jvm.MethodName)) ∈ lw_tbl := lw_at lw_m9 155 rfl
theorem q2194 : (Jvm.Cond.sameMethod "FairHouse$Cond" "FairHouse$Cond" "holds" "(LFairHouse;LFairHouse$Ride;)Z") ∈ lw_all := lw_g (lw_at lw_m9 156 rfl) rfl
theorem q173 : (Jvm.Cond.initialized "FairHouse$Up") ∈ lw_all := lw_g (lw_at lw_m1 55 rfl) rfl
theorem q203 : (Jvm.Cond.fieldLinkNest "FairHouse$Up" (17 : Nat) "FairHouse" "flags" "[Z" "FairHouse") ∈ lw_tbl := lw_at lw_m1 85 rfl
theorem q969 : (Jvm.Cond.selects "FairHouse$Up" ({ cls := "java/lang/Object", name := "getClass", desc := "()Ljava/lang/Class;" } : Jvm.MethodName) ({ cls := "java/lang/Object", name := "getClass", desc := "()Ljava/lang/Class;" } : Jvm.MethodName)) ∈ lw_all := lw_g (lw_at lw_m4 131 rfl) rfl
theorem q1643 : (Jvm.Cond.instantiable "FairHouse$Up" (2 : Nat)) ∈ lw_all := lw_g (lw_at lw_m7 85 rfl) rfl
theorem q1649 : (Jvm.Cond.instanceMethod ({ cls := "FairHouse$Up", name := "<init>", desc := "(IZ)V" } : Jvm.MethodName)) ∈ lw_all := lw_g (lw_at lw_m7 91 rfl) rfl
theorem q1650 : (Jvm.Cond.code ({ cls := "FairHouse$Up", name := "<init>", desc := "(IZ)V" } : Jvm.MethodName) prog_37_method_1_code (3 : Nat) (Option.none : Option Jvm.ClassFile.FieldType)) ∈ lw_all := lw_g (lw_at lw_m7 92 rfl) rfl
theorem q1651 : (Jvm.Cond.methodLinkNest "FairHouse$Up" (1 : Nat) ({ cls := "FairHouse$Cond", name := "<init>", desc := "()V" } : Jvm.MethodName) "FairHouse") ∈ lw_tbl := lw_at lw_m7 93 rfl
theorem q1655 : (Jvm.Cond.fieldLink "FairHouse$Up" (7 : Nat) "FairHouse$Up" "flag" "I") ∈ lw_all := lw_g (lw_at lw_m7 97 rfl) rfl
theorem q1656 : (Jvm.Cond.fieldLink "FairHouse$Up" (13 : Nat) "FairHouse$Up" "turned" "Z") ∈ lw_all := lw_g (lw_at lw_m7 98 rfl) rfl
theorem q1657 : (Jvm.Cond.laysFinal "FairHouse$Up" "FairHouse$Up" "flag" "I") ∈ lw_all := lw_g (lw_at lw_m7 99 rfl) rfl
theorem q1658 : (Jvm.Cond.soleField "FairHouse$Up" "flag") ∈ lw_all := lw_g (lw_at lw_m7 100 rfl) rfl
theorem q1659 : (Jvm.Cond.laysFinal "FairHouse$Up" "FairHouse$Up" "turned" "Z") ∈ lw_all := lw_g (lw_at lw_m7 101 rfl) rfl
theorem q1660 : (Jvm.Cond.soleField "FairHouse$Up" "turned") ∈ lw_all := lw_g (lw_at lw_m7 102 rfl) rfl
theorem q1661 : (Jvm.Cond.superclass "FairHouse$Up" "FairHouse$Cond") ∈ lw_all := lw_g (lw_at lw_m7 103 rfl) rfl
theorem q2206 : (Jvm.Cond.instanceMethod ({ cls := "FairHouse$Up", name := "holds", desc := "(LFairHouse;LFairHouse$Ride;)Z" } : Jvm.MethodName)) ∈ lw_all := lw_g (lw_at lw_m9 168 rfl) rfl
theorem q2207 : (Jvm.Cond.code ({ cls := "FairHouse$Up", name := "holds", desc := "(LFairHouse;LFairHouse$Ride;)Z" } : Jvm.MethodName) prog_37_method_2_code (3 : Nat) (Option.some Jvm.ClassFile.FieldType.boolean)) ∈ lw_all := lw_g (lw_at lw_m9 169 rfl) rfl
theorem q2208 : (Jvm.Cond.selects "FairHouse$Up" ({ cls := "FairHouse$Cond", name := "holds", desc := "(LFairHouse;LFairHouse$Ride;)Z" } : Jvm.MethodName) ({ cls := "FairHouse$Up", name := "holds", desc := "(LFairHouse;LFairHouse$Ride;)Z" } : Jvm.MethodName)) ∈ lw_all := lw_g (lw_at lw_m9 170 rfl) rfl
theorem q3410 : (Jvm.Cond.castable "FairHouse$Up" "FairHouse$Cond") ∈ lw_tbl := lw_at lw_m14 172 rfl
theorem q3443 : (Jvm.Cond.castable "FairHouse$Up" "java/lang/Object") ∈ lw_tbl := lw_at lw_m14 205 rfl
theorem q174 : (Jvm.Cond.initialized "FairHouse$Compare") ∈ lw_all := lw_g (lw_at lw_m1 56 rfl) rfl
theorem q196 : (Jvm.Cond.fieldLinkNest "FairHouse$Compare" (32 : Nat) "FairHouse" "stall" "I" "FairHouse") ∈ lw_tbl := lw_at lw_m1 78 rfl
theorem q949 : (Jvm.Cond.selects "FairHouse$Compare" ({ cls := "java/lang/Object", name := "getClass", desc := "()Ljava/lang/Class;" } : Jvm.MethodName) ({ cls := "java/lang/Object", name := "getClass", desc := "()Ljava/lang/Class;" } : Jvm.MethodName)) ∈ lw_all := lw_g (lw_at lw_m4 111 rfl) rfl
theorem q1663 : (Jvm.Cond.instantiable "FairHouse$Compare" (4 : Nat)) ∈ lw_all := lw_g (lw_at lw_m7 105 rfl) rfl
theorem q1665 : (Jvm.Cond.instanceMethod ({ cls := "FairHouse$Compare", name := "<init>", desc := "(ILFairHouse$Expr;LFairHouse$Expr;Z)V" } : Jvm.MethodName)) ∈ lw_all := lw_g (lw_at lw_m7 107 rfl) rfl
theorem q1666 : (Jvm.Cond.code ({ cls := "FairHouse$Compare", name := "<init>", desc := "(ILFairHouse$Expr;LFairHouse$Expr;Z)V" } : Jvm.MethodName) prog_7_method_1_code (5 : Nat) (Option.none : Option Jvm.ClassFile.FieldType)) ∈ lw_all := lw_g (lw_at lw_m7 108 rfl) rfl
theorem q1667 : (Jvm.Cond.methodLinkNest "FairHouse$Compare" (3 : Nat) ({ cls := "FairHouse$Cond", name := "<init>", desc := "()V" } : Jvm.MethodName) "FairHouse") ∈ lw_tbl := lw_at lw_m7 109 rfl
theorem q1668 : (Jvm.Cond.fieldLink "FairHouse$Compare" (9 : Nat) "FairHouse$Compare" "sign" "I") ∈ lw_all := lw_g (lw_at lw_m7 110 rfl) rfl
theorem q1669 : (Jvm.Cond.fieldLink "FairHouse$Compare" (15 : Nat) "FairHouse$Compare" "a" "LFairHouse$Expr;") ∈ lw_all := lw_g (lw_at lw_m7 111 rfl) rfl
theorem q1670 : (Jvm.Cond.fieldLink "FairHouse$Compare" (19 : Nat) "FairHouse$Compare" "b" "LFairHouse$Expr;") ∈ lw_all := lw_g (lw_at lw_m7 112 rfl) rfl
theorem q1671 : (Jvm.Cond.fieldLink "FairHouse$Compare" (22 : Nat) "FairHouse$Compare" "turned" "Z") ∈ lw_all := lw_g (lw_at lw_m7 113 rfl) rfl
theorem q1672 : (Jvm.Cond.laysFinal "FairHouse$Compare" "FairHouse$Compare" "sign" "I") ∈ lw_all := lw_g (lw_at lw_m7 114 rfl) rfl
theorem q1673 : (Jvm.Cond.soleField "FairHouse$Compare" "sign") ∈ lw_all := lw_g (lw_at lw_m7 115 rfl) rfl
theorem q1674 : (Jvm.Cond.laysFinal "FairHouse$Compare" "FairHouse$Compare" "a" "LFairHouse$Expr;") ∈ lw_all := lw_g (lw_at lw_m7 116 rfl) rfl
theorem q1675 : (Jvm.Cond.soleField "FairHouse$Compare" "a") ∈ lw_all := lw_g (lw_at lw_m7 117 rfl) rfl
theorem q1676 : (Jvm.Cond.laysFinal "FairHouse$Compare" "FairHouse$Compare" "b" "LFairHouse$Expr;") ∈ lw_all := lw_g (lw_at lw_m7 118 rfl) rfl
theorem q1677 : (Jvm.Cond.soleField "FairHouse$Compare" "b") ∈ lw_all := lw_g (lw_at lw_m7 119 rfl) rfl
theorem q1678 : (Jvm.Cond.laysFinal "FairHouse$Compare" "FairHouse$Compare" "turned" "Z") ∈ lw_all := lw_g (lw_at lw_m7 120 rfl) rfl
theorem q1679 : (Jvm.Cond.soleField "FairHouse$Compare" "turned") ∈ lw_all := lw_g (lw_at lw_m7 121 rfl) rfl
theorem q1680 : (Jvm.Cond.superclass "FairHouse$Compare" "FairHouse$Cond") ∈ lw_all := lw_g (lw_at lw_m7 122 rfl) rfl
theorem q2195 : (Jvm.Cond.selects "FairHouse$Compare" ({ cls := "FairHouse$Cond", name := "holds", desc := "(LFairHouse;LFairHouse$Ride;)Z" } : Jvm.MethodName) ({ cls := "FairHouse$Compare", name := "holds", desc := "(LFairHouse;LFairHouse$Ride;)Z" } : Jvm.MethodName)) ∈ lw_all := lw_g (lw_at lw_m9 157 rfl) rfl
theorem q2196 : (Jvm.Cond.instanceMethod ({ cls := "FairHouse$Compare", name := "holds", desc := "(LFairHouse;LFairHouse$Ride;)Z" } : Jvm.MethodName)) ∈ lw_all := lw_g (lw_at lw_m9 158 rfl) rfl
theorem q2197 : (Jvm.Cond.code ({ cls := "FairHouse$Compare", name := "holds", desc := "(LFairHouse;LFairHouse$Ride;)Z" } : Jvm.MethodName) prog_7_method_2_code (6 : Nat) (Option.some Jvm.ClassFile.FieldType.boolean)) ∈ lw_all := lw_g (lw_at lw_m9 159 rfl) rfl
theorem q2198 : (Jvm.Cond.methodLink "FairHouse$Compare" (26 : Nat) ({ cls := "FairHouse$Expr", name := "of", desc := "(LFairHouse;LFairHouse$Ride;)I" } : Jvm.MethodName)) ∈ lw_all := lw_g (lw_at lw_m9 160 rfl) rfl
theorem q3408 : (Jvm.Cond.castable "FairHouse$Compare" "FairHouse$Cond") ∈ lw_tbl := lw_at lw_m14 170 rfl
theorem q3444 : (Jvm.Cond.castable "FairHouse$Compare" "java/lang/Object") ∈ lw_tbl := lw_at lw_m14 206 rfl
theorem q175 : (Jvm.Cond.initialized "FairHouse$Several") ∈ lw_all := lw_g (lw_at lw_m1 57 rfl) rfl
theorem q197 : (Jvm.Cond.fieldLinkNest "FairHouse$Several" (34 : Nat) "FairHouse" "stall" "I" "FairHouse") ∈ lw_tbl := lw_at lw_m1 79 rfl
theorem q962 : (Jvm.Cond.selects "FairHouse$Several" ({ cls := "java/lang/Object", name := "getClass", desc := "()Ljava/lang/Class;" } : Jvm.MethodName) ({ cls := "java/lang/Object", name := "getClass", desc := "()Ljava/lang/Class;" } : Jvm.MethodName)) ∈ lw_all := lw_g (lw_at lw_m4 124 rfl) rfl
theorem q1684 : (Jvm.Cond.instantiable "FairHouse$Several" (2 : Nat)) ∈ lw_all := lw_g (lw_at lw_m7 126 rfl) rfl
theorem q1686 : (Jvm.Cond.instanceMethod ({ cls := "FairHouse$Several", name := "<init>", desc := "(Z)V" } : Jvm.MethodName)) ∈ lw_all := lw_g (lw_at lw_m7 128 rfl) rfl
theorem q1687 : (Jvm.Cond.code ({ cls := "FairHouse$Several", name := "<init>", desc := "(Z)V" } : Jvm.MethodName) prog_28_method_1_code (2 : Nat) (Option.none : Option Jvm.ClassFile.FieldType)) ∈ lw_all := lw_g (lw_at lw_m7 129 rfl) rfl
theorem q1688 : (Jvm.Cond.methodLinkNest "FairHouse$Several" (1 : Nat) ({ cls := "FairHouse$Cond", name := "<init>", desc := "()V" } : Jvm.MethodName) "FairHouse") ∈ lw_tbl := lw_at lw_m7 130 rfl
theorem q1689 : (Jvm.Cond.classLink "FairHouse$Several" (7 : Nat) "java/util/ArrayList") ∈ lw_all := lw_g (lw_at lw_m7 131 rfl) rfl
theorem q1690 : (Jvm.Cond.methodLink "FairHouse$Several" (9 : Nat) ({ cls := "java/util/ArrayList", name := "<init>", desc := "(I)V" } : Jvm.MethodName)) ∈ lw_all := lw_g (lw_at lw_m7 132 rfl) rfl
theorem q1691 : (Jvm.Cond.fieldLink "FairHouse$Several" (18 : Nat) "FairHouse$Several" "all" "Z") ∈ lw_all := lw_g (lw_at lw_m7 133 rfl) rfl
theorem q1693 : (Jvm.Cond.fieldLink "FairHouse$Several" (12 : Nat) "FairHouse$Several" "parts" "Ljava/util/ArrayList;") ∈ lw_all := lw_g (lw_at lw_m7 135 rfl) rfl
theorem q1695 : (Jvm.Cond.laysFinal "FairHouse$Several" "FairHouse$Several" "all" "Z") ∈ lw_all := lw_g (lw_at lw_m7 137 rfl) rfl
theorem q1696 : (Jvm.Cond.soleField "FairHouse$Several" "all") ∈ lw_all := lw_g (lw_at lw_m7 138 rfl) rfl
theorem q1697 : (Jvm.Cond.laysFinal "FairHouse$Several" "FairHouse$Several" "parts" "Ljava/util/ArrayList;") ∈ lw_all := lw_g (lw_at lw_m7 139 rfl) rfl
theorem q1698 : (Jvm.Cond.soleField "FairHouse$Several" "parts") ∈ lw_all := lw_g (lw_at lw_m7 140 rfl) rfl
theorem q1699 : (Jvm.Cond.superclass "FairHouse$Several" "FairHouse$Cond") ∈ lw_all := lw_g (lw_at lw_m7 141 rfl) rfl
theorem q2199 : (Jvm.Cond.selects "FairHouse$Several" ({ cls := "FairHouse$Cond", name := "holds", desc := "(LFairHouse;LFairHouse$Ride;)Z" } : Jvm.MethodName) ({ cls := "FairHouse$Several", name := "holds", desc := "(LFairHouse;LFairHouse$Ride;)Z" } : Jvm.MethodName)) ∈ lw_all := lw_g (lw_at lw_m9 161 rfl) rfl
theorem q2200 : (Jvm.Cond.instanceMethod ({ cls := "FairHouse$Several", name := "holds", desc := "(LFairHouse;LFairHouse$Ride;)Z" } : Jvm.MethodName)) ∈ lw_all := lw_g (lw_at lw_m9 162 rfl) rfl
theorem q2201 : (Jvm.Cond.code ({ cls := "FairHouse$Several", name := "holds", desc := "(LFairHouse;LFairHouse$Ride;)Z" } : Jvm.MethodName) prog_28_method_2_code (5 : Nat) (Option.some Jvm.ClassFile.FieldType.boolean)) ∈ lw_all := lw_g (lw_at lw_m9 163 rfl) rfl
theorem q2202 : (Jvm.Cond.methodLink "FairHouse$Several" (22 : Nat) ({ cls := "java/util/ArrayList", name := "size", desc := "()I" } : Jvm.MethodName)) ∈ lw_all := lw_g (lw_at lw_m9 164 rfl) rfl
theorem q2203 : (Jvm.Cond.methodLink "FairHouse$Several" (26 : Nat) ({ cls := "java/util/ArrayList", name := "get", desc := "(I)Ljava/lang/Object;" } : Jvm.MethodName)) ∈ lw_all := lw_g (lw_at lw_m9 165 rfl) rfl
theorem q2204 : (Jvm.Cond.classLink "FairHouse$Several" (2 : Nat) "FairHouse$Cond") ∈ lw_all := lw_g (lw_at lw_m9 166 rfl) rfl
theorem q2205 : (Jvm.Cond.methodLink "FairHouse$Several" (30 : Nat) ({ cls := "FairHouse$Cond", name := "holds", desc := "(LFairHouse;LFairHouse$Ride;)Z" } : Jvm.MethodName)) ∈ lw_all := lw_g (lw_at lw_m9 167 rfl) rfl
theorem q3409 : (Jvm.Cond.castable "FairHouse$Several" "FairHouse$Cond") ∈ lw_tbl := lw_at lw_m14 171 rfl
theorem q3445 : (Jvm.Cond.castable "FairHouse$Several" "java/lang/Object") ∈ lw_tbl := lw_at lw_m14 207 rfl
theorem q1077 : (Jvm.Cond.fieldLinkNest "FairHouse$Turns" (13 : Nat) "FairHouse$Spin" "mass" "I" "FairHouse") ∈ lw_tbl := lw_at lw_m4 239 rfl
theorem q1079 : (Jvm.Cond.fieldLinkNest "FairHouse$Turns" (20 : Nat) "FairHouse$Spin" "accel" "I" "FairHouse") ∈ lw_tbl := lw_at lw_m5 1 rfl
theorem q1082 : (Jvm.Cond.fieldLinkNest "FairHouse$Turns" (17 : Nat) "FairHouse$Spin" "speed" "I" "FairHouse") ∈ lw_tbl := lw_at lw_m5 4 rfl
theorem q1395 : (Jvm.Cond.interfaceMethod "FairHouse$Turns" "FairHouse$Turns" "spin" "()LFairHouse$Spin;") ∈ lw_tbl := lw_at lw_m6 77 rfl
theorem q1396 : (Jvm.Cond.declares ({ cls := "FairHouse$Turns", name := "spin", desc := "()LFairHouse$Spin;" } : Jvm.MethodName)) ∈ lw_tbl := lw_at lw_m6 78 rfl
theorem q2124 : (Jvm.Cond.interfaceMethod "FairHouse$Turns" "FairHouse$Turns" "isStill" "()Z") ∈ lw_tbl := lw_at lw_m9 86 rfl
theorem q2125 : (Jvm.Cond.declares ({ cls := "FairHouse$Turns", name := "isStill", desc := "()Z" } : Jvm.MethodName)) ∈ lw_tbl := lw_at lw_m9 87 rfl
theorem q2127 : (Jvm.Cond.instanceMethod ({ cls := "FairHouse$Turns", name := "isStill", desc := "()Z" } : Jvm.MethodName)) ∈ lw_all := lw_g (lw_at lw_m9 89 rfl) rfl
theorem q2128 : (Jvm.Cond.publicMethod ({ cls := "FairHouse$Turns", name := "isStill", desc := "()Z" } : Jvm.MethodName)) ∈ lw_tbl := lw_at lw_m9 90 rfl
theorem q2129 : (Jvm.Cond.code ({ cls := "FairHouse$Turns", name := "isStill", desc := "()Z" } : Jvm.MethodName) prog_36_method_4_code (1 : Nat) (Option.some Jvm.ClassFile.FieldType.boolean)) ∈ lw_all := lw_g (lw_at lw_m9 91 rfl) rfl
theorem q2130 : (Jvm.Cond.interfaceEntry "FairHouse$Turns" (1 : Nat)) ∈ lw_tbl := lw_at lw_m9 92 rfl
theorem q2131 : (Jvm.Cond.methodLink "FairHouse$Turns" (1 : Nat) ({ cls := "FairHouse$Turns", name := "spin", desc := "()LFairHouse$Spin;" } : Jvm.MethodName)) ∈ lw_all := lw_g (lw_at lw_m9 93 rfl) rfl
theorem q2151 : (Jvm.Cond.declares ({ cls := "FairHouse$Turns", name := "isCalm", desc := "()Z" } : Jvm.MethodName)) ∈ lw_tbl := lw_at lw_m9 113 rfl
theorem q2153 : (Jvm.Cond.instanceMethod ({ cls := "FairHouse$Turns", name := "isCalm", desc := "()Z" } : Jvm.MethodName)) ∈ lw_all := lw_g (lw_at lw_m9 115 rfl) rfl
theorem q2154 : (Jvm.Cond.publicMethod ({ cls := "FairHouse$Turns", name := "isCalm", desc := "()Z" } : Jvm.MethodName)) ∈ lw_tbl := lw_at lw_m9 116 rfl
theorem q2155 : (Jvm.Cond.code ({ cls := "FairHouse$Turns", name := "isCalm", desc := "()Z" } : Jvm.MethodName) prog_36_method_9_code (1 : Nat) (Option.some Jvm.ClassFile.FieldType.boolean)) ∈ lw_all := lw_g (lw_at lw_m9 117 rfl) rfl
theorem q2156 : (Jvm.Cond.interfaceEntry "FairHouse$Turns" (33 : Nat)) ∈ lw_tbl := lw_at lw_m9 118 rfl
theorem q2157 : (Jvm.Cond.methodLink "FairHouse$Turns" (33 : Nat) ({ cls := "FairHouse$Turns", name := "isStill", desc := "()Z" } : Jvm.MethodName)) ∈ lw_all := lw_g (lw_at lw_m9 119 rfl) rfl
theorem q2266 : (Jvm.Cond.interfaceMethod "FairHouse$Turns" "FairHouse$Turns" "turn" "()V") ∈ lw_tbl := lw_at lw_m9 228 rfl
theorem q2267 : (Jvm.Cond.declares ({ cls := "FairHouse$Turns", name := "turn", desc := "()V" } : Jvm.MethodName)) ∈ lw_tbl := lw_at lw_m9 229 rfl
theorem q2269 : (Jvm.Cond.instanceMethod ({ cls := "FairHouse$Turns", name := "turn", desc := "()V" } : Jvm.MethodName)) ∈ lw_all := lw_g (lw_at lw_m9 231 rfl) rfl
theorem q2270 : (Jvm.Cond.publicMethod ({ cls := "FairHouse$Turns", name := "turn", desc := "()V" } : Jvm.MethodName)) ∈ lw_tbl := lw_at lw_m9 232 rfl
theorem q2271 : (Jvm.Cond.code ({ cls := "FairHouse$Turns", name := "turn", desc := "()V" } : Jvm.MethodName) prog_36_method_5_code (1 : Nat) (Option.none : Option Jvm.ClassFile.FieldType)) ∈ lw_all := lw_g (lw_at lw_m9 233 rfl) rfl
theorem q2272 : (Jvm.Cond.methodLink "FairHouse$Turns" (23 : Nat) ({ cls := "FairHouse$Spin", name := "near", desc := "(I)V" } : Jvm.MethodName)) ∈ lw_all := lw_g (lw_at lw_m9 234 rfl) rfl
theorem q2319 : (Jvm.Cond.publicMethod ({ cls := "FairHouse$Turns", name := "spin", desc := "()LFairHouse$Spin;" } : Jvm.MethodName)) ∈ lw_tbl := lw_at lw_m10 41 rfl
theorem q2337 : (Jvm.Cond.declares ({ cls := "FairHouse$Turns", name := "ease", desc := "()V" } : Jvm.MethodName)) ∈ lw_tbl := lw_at lw_m10 59 rfl
theorem q2339 : (Jvm.Cond.instanceMethod ({ cls := "FairHouse$Turns", name := "ease", desc := "()V" } : Jvm.MethodName)) ∈ lw_all := lw_g (lw_at lw_m10 61 rfl) rfl
theorem q2340 : (Jvm.Cond.publicMethod ({ cls := "FairHouse$Turns", name := "ease", desc := "()V" } : Jvm.MethodName)) ∈ lw_tbl := lw_at lw_m10 62 rfl
theorem q2341 : (Jvm.Cond.code ({ cls := "FairHouse$Turns", name := "ease", desc := "()V" } : Jvm.MethodName) prog_36_method_11_code (1 : Nat) (Option.none : Option Jvm.ClassFile.FieldType)) ∈ lw_all := lw_g (lw_at lw_m10 63 rfl) rfl
theorem q2342 : (Jvm.Cond.interfaceEntry "FairHouse$Turns" (37 : Nat)) ∈ lw_tbl := lw_at lw_m10 64 rfl
theorem q2343 : (Jvm.Cond.methodLink "FairHouse$Turns" (37 : Nat) ({ cls := "FairHouse$Turns", name := "turn", desc := "()V" } : Jvm.MethodName)) ∈ lw_all := lw_g (lw_at lw_m10 65 rfl) rfl
theorem q2415 : (Jvm.Cond.interfaceMethod "FairHouse$Turns" "FairHouse$Turns" "pull" "()I") ∈ lw_tbl := lw_at lw_m10 137 rfl
theorem q2416 : (Jvm.Cond.declares ({ cls := "FairHouse$Turns", name := "pull", desc := "()I" } : Jvm.MethodName)) ∈ lw_tbl := lw_at lw_m10 138 rfl
theorem q2418 : (Jvm.Cond.instanceMethod ({ cls := "FairHouse$Turns", name := "pull", desc := "()I" } : Jvm.MethodName)) ∈ lw_all := lw_g (lw_at lw_m10 140 rfl) rfl
theorem q2419 : (Jvm.Cond.publicMethod ({ cls := "FairHouse$Turns", name := "pull", desc := "()I" } : Jvm.MethodName)) ∈ lw_tbl := lw_at lw_m10 141 rfl
theorem q2420 : (Jvm.Cond.code ({ cls := "FairHouse$Turns", name := "pull", desc := "()I" } : Jvm.MethodName) prog_36_method_2_code (1 : Nat) (Option.some Jvm.ClassFile.FieldType.int)) ∈ lw_all := lw_g (lw_at lw_m10 142 rfl) rfl
theorem q2421 : (Jvm.Cond.methodLink "FairHouse$Turns" (7 : Nat) ({ cls := "FairHouse$Spin", name := "size", desc := "()I" } : Jvm.MethodName)) ∈ lw_all := lw_g (lw_at lw_m10 143 rfl) rfl
theorem q2464 : (Jvm.Cond.declares ({ cls := "FairHouse$Turns", name := "draw", desc := "()I" } : Jvm.MethodName)) ∈ lw_tbl := lw_at lw_m10 186 rfl
theorem q2466 : (Jvm.Cond.instanceMethod ({ cls := "FairHouse$Turns", name := "draw", desc := "()I" } : Jvm.MethodName)) ∈ lw_all := lw_g (lw_at lw_m10 188 rfl) rfl
theorem q2467 : (Jvm.Cond.publicMethod ({ cls := "FairHouse$Turns", name := "draw", desc := "()I" } : Jvm.MethodName)) ∈ lw_tbl := lw_at lw_m10 189 rfl
theorem q2468 : (Jvm.Cond.code ({ cls := "FairHouse$Turns", name := "draw", desc := "()I" } : Jvm.MethodName) prog_36_method_6_code (1 : Nat) (Option.some Jvm.ClassFile.FieldType.int)) ∈ lw_all := lw_g (lw_at lw_m10 190 rfl) rfl
theorem q2469 : (Jvm.Cond.interfaceEntry "FairHouse$Turns" (27 : Nat)) ∈ lw_tbl := lw_at lw_m10 191 rfl
theorem q2470 : (Jvm.Cond.methodLink "FairHouse$Turns" (27 : Nat) ({ cls := "FairHouse$Turns", name := "pull", desc := "()I" } : Jvm.MethodName)) ∈ lw_all := lw_g (lw_at lw_m10 192 rfl) rfl
theorem q2491 : (Jvm.Cond.declares ({ cls := "FairHouse$Turns", name := "limit", desc := "()I" } : Jvm.MethodName)) ∈ lw_tbl := lw_at lw_m10 213 rfl
theorem q2493 : (Jvm.Cond.instanceMethod ({ cls := "FairHouse$Turns", name := "limit", desc := "()I" } : Jvm.MethodName)) ∈ lw_all := lw_g (lw_at lw_m10 215 rfl) rfl
theorem q2494 : (Jvm.Cond.publicMethod ({ cls := "FairHouse$Turns", name := "limit", desc := "()I" } : Jvm.MethodName)) ∈ lw_tbl := lw_at lw_m10 216 rfl
theorem q2495 : (Jvm.Cond.code ({ cls := "FairHouse$Turns", name := "limit", desc := "()I" } : Jvm.MethodName) prog_36_method_10_code (1 : Nat) (Option.some Jvm.ClassFile.FieldType.int)) ∈ lw_all := lw_g (lw_at lw_m10 217 rfl) rfl
theorem q2534 : (Jvm.Cond.declares ({ cls := "FairHouse$Turns", name := "tear", desc := "()I" } : Jvm.MethodName)) ∈ lw_tbl := lw_at lw_m11 16 rfl
theorem q2536 : (Jvm.Cond.instanceMethod ({ cls := "FairHouse$Turns", name := "tear", desc := "()I" } : Jvm.MethodName)) ∈ lw_all := lw_g (lw_at lw_m11 18 rfl) rfl
theorem q2537 : (Jvm.Cond.publicMethod ({ cls := "FairHouse$Turns", name := "tear", desc := "()I" } : Jvm.MethodName)) ∈ lw_tbl := lw_at lw_m11 19 rfl
theorem q2538 : (Jvm.Cond.code ({ cls := "FairHouse$Turns", name := "tear", desc := "()I" } : Jvm.MethodName) prog_36_method_8_code (1 : Nat) (Option.some Jvm.ClassFile.FieldType.int)) ∈ lw_all := lw_g (lw_at lw_m11 20 rfl) rfl
theorem q2621 : (Jvm.Cond.interfaceMethod "FairHouse$Turns" "FairHouse$Turns" "hum" "()I") ∈ lw_tbl := lw_at lw_m11 103 rfl
theorem q2622 : (Jvm.Cond.declares ({ cls := "FairHouse$Turns", name := "hum", desc := "()I" } : Jvm.MethodName)) ∈ lw_tbl := lw_at lw_m11 104 rfl
theorem q2624 : (Jvm.Cond.instanceMethod ({ cls := "FairHouse$Turns", name := "hum", desc := "()I" } : Jvm.MethodName)) ∈ lw_all := lw_g (lw_at lw_m11 106 rfl) rfl
theorem q2625 : (Jvm.Cond.publicMethod ({ cls := "FairHouse$Turns", name := "hum", desc := "()I" } : Jvm.MethodName)) ∈ lw_tbl := lw_at lw_m11 107 rfl
theorem q2626 : (Jvm.Cond.code ({ cls := "FairHouse$Turns", name := "hum", desc := "()I" } : Jvm.MethodName) prog_36_method_3_code (1 : Nat) (Option.some Jvm.ClassFile.FieldType.int)) ∈ lw_all := lw_g (lw_at lw_m11 108 rfl) rfl
theorem q2654 : (Jvm.Cond.declares ({ cls := "FairHouse$Turns", name := "noise", desc := "()I" } : Jvm.MethodName)) ∈ lw_tbl := lw_at lw_m11 136 rfl
theorem q2656 : (Jvm.Cond.instanceMethod ({ cls := "FairHouse$Turns", name := "noise", desc := "()I" } : Jvm.MethodName)) ∈ lw_all := lw_g (lw_at lw_m11 138 rfl) rfl
theorem q2657 : (Jvm.Cond.publicMethod ({ cls := "FairHouse$Turns", name := "noise", desc := "()I" } : Jvm.MethodName)) ∈ lw_tbl := lw_at lw_m11 139 rfl
theorem q2658 : (Jvm.Cond.code ({ cls := "FairHouse$Turns", name := "noise", desc := "()I" } : Jvm.MethodName) prog_36_method_7_code (1 : Nat) (Option.some Jvm.ClassFile.FieldType.int)) ∈ lw_all := lw_g (lw_at lw_m11 140 rfl) rfl
theorem q2659 : (Jvm.Cond.interfaceEntry "FairHouse$Turns" (30 : Nat)) ∈ lw_tbl := lw_at lw_m11 141 rfl
theorem q2660 : (Jvm.Cond.methodLink "FairHouse$Turns" (30 : Nat) ({ cls := "FairHouse$Turns", name := "hum", desc := "()I" } : Jvm.MethodName)) ∈ lw_all := lw_g (lw_at lw_m11 142 rfl) rfl
theorem q3388 : (Jvm.Cond.initialized "FairHouse$Turns") ∈ lw_all := lw_g (lw_at lw_m14 150 rfl) rfl
theorem q1083 : (Jvm.Cond.fieldLinkNest "FairHouse$Hitched" (14 : Nat) "FairHouse$Spin" "speed" "I" "FairHouse") ∈ lw_tbl := lw_at lw_m5 5 rfl
theorem q2313 : (Jvm.Cond.declares ({ cls := "FairHouse$Hitched", name := "ease", desc := "()V" } : Jvm.MethodName)) ∈ lw_tbl := lw_at lw_m10 35 rfl
theorem q2315 : (Jvm.Cond.instanceMethod ({ cls := "FairHouse$Hitched", name := "ease", desc := "()V" } : Jvm.MethodName)) ∈ lw_all := lw_g (lw_at lw_m10 37 rfl) rfl
theorem q2316 : (Jvm.Cond.publicMethod ({ cls := "FairHouse$Hitched", name := "ease", desc := "()V" } : Jvm.MethodName)) ∈ lw_tbl := lw_at lw_m10 38 rfl
theorem q2317 : (Jvm.Cond.code ({ cls := "FairHouse$Hitched", name := "ease", desc := "()V" } : Jvm.MethodName) prog_12_method_4_code (1 : Nat) (Option.none : Option Jvm.ClassFile.FieldType)) ∈ lw_all := lw_g (lw_at lw_m10 39 rfl) rfl
theorem q2318 : (Jvm.Cond.interfaceEntry "FairHouse$Hitched" (7 : Nat)) ∈ lw_tbl := lw_at lw_m10 40 rfl
theorem q2321 : (Jvm.Cond.interfaceEntry "FairHouse$Hitched" (11 : Nat)) ∈ lw_tbl := lw_at lw_m10 43 rfl
theorem q2322 : (Jvm.Cond.methodLink "FairHouse$Hitched" (11 : Nat) ({ cls := "FairHouse$Hitched", name := "leader", desc := "()LFairHouse$Spin;" } : Jvm.MethodName)) ∈ lw_all := lw_g (lw_at lw_m10 44 rfl) rfl
theorem q2323 : (Jvm.Cond.interfaceMethod "FairHouse$Hitched" "FairHouse$Hitched" "leader" "()LFairHouse$Spin;") ∈ lw_tbl := lw_at lw_m10 45 rfl
theorem q2324 : (Jvm.Cond.declares ({ cls := "FairHouse$Hitched", name := "leader", desc := "()LFairHouse$Spin;" } : Jvm.MethodName)) ∈ lw_tbl := lw_at lw_m10 46 rfl
theorem q2451 : (Jvm.Cond.declares ({ cls := "FairHouse$Hitched", name := "draw", desc := "()I" } : Jvm.MethodName)) ∈ lw_tbl := lw_at lw_m10 173 rfl
theorem q2453 : (Jvm.Cond.instanceMethod ({ cls := "FairHouse$Hitched", name := "draw", desc := "()I" } : Jvm.MethodName)) ∈ lw_all := lw_g (lw_at lw_m10 175 rfl) rfl
theorem q2454 : (Jvm.Cond.publicMethod ({ cls := "FairHouse$Hitched", name := "draw", desc := "()I" } : Jvm.MethodName)) ∈ lw_tbl := lw_at lw_m10 176 rfl
theorem q2455 : (Jvm.Cond.code ({ cls := "FairHouse$Hitched", name := "draw", desc := "()I" } : Jvm.MethodName) prog_12_method_2_code (1 : Nat) (Option.some Jvm.ClassFile.FieldType.int)) ∈ lw_all := lw_g (lw_at lw_m10 177 rfl) rfl
theorem q2456 : (Jvm.Cond.interfaceEntry "FairHouse$Hitched" (1 : Nat)) ∈ lw_tbl := lw_at lw_m10 178 rfl
theorem q2642 : (Jvm.Cond.declares ({ cls := "FairHouse$Hitched", name := "noise", desc := "()I" } : Jvm.MethodName)) ∈ lw_tbl := lw_at lw_m11 124 rfl
theorem q2644 : (Jvm.Cond.instanceMethod ({ cls := "FairHouse$Hitched", name := "noise", desc := "()I" } : Jvm.MethodName)) ∈ lw_all := lw_g (lw_at lw_m11 126 rfl) rfl
theorem q2645 : (Jvm.Cond.publicMethod ({ cls := "FairHouse$Hitched", name := "noise", desc := "()I" } : Jvm.MethodName)) ∈ lw_tbl := lw_at lw_m11 127 rfl
theorem q2646 : (Jvm.Cond.code ({ cls := "FairHouse$Hitched", name := "noise", desc := "()I" } : Jvm.MethodName) prog_12_method_3_code (1 : Nat) (Option.some Jvm.ClassFile.FieldType.int)) ∈ lw_all := lw_g (lw_at lw_m11 128 rfl) rfl
theorem q3390 : (Jvm.Cond.initialized "FairHouse$Hitched") ∈ lw_all := lw_g (lw_at lw_m14 152 rfl) rfl
theorem q1166 : (Jvm.Cond.fieldLinkNest "FairHouse$Lifts" (13 : Nat) "FairHouse$Hoist" "load" "I" "FairHouse") ∈ lw_tbl := lw_at lw_m5 88 rfl
theorem q1168 : (Jvm.Cond.fieldLinkNest "FairHouse$Lifts" (19 : Nat) "FairHouse$Hoist" "pace" "I" "FairHouse") ∈ lw_tbl := lw_at lw_m5 90 rfl
theorem q1172 : (Jvm.Cond.fieldLinkNest "FairHouse$Lifts" (16 : Nat) "FairHouse$Hoist" "height" "I" "FairHouse") ∈ lw_tbl := lw_at lw_m5 94 rfl
theorem q1177 : (Jvm.Cond.fieldLinkNest "FairHouse$Lifts" (7 : Nat) "FairHouse$Hoist" "moved" "I" "FairHouse") ∈ lw_tbl := lw_at lw_m5 99 rfl
theorem q1738 : (Jvm.Cond.interfaceMethod "FairHouse$Lifts" "FairHouse$Lifts" "hoist" "()LFairHouse$Hoist;") ∈ lw_tbl := lw_at lw_m7 180 rfl
theorem q1739 : (Jvm.Cond.declares ({ cls := "FairHouse$Lifts", name := "hoist", desc := "()LFairHouse$Hoist;" } : Jvm.MethodName)) ∈ lw_tbl := lw_at lw_m7 181 rfl
theorem q2080 : (Jvm.Cond.interfaceMethod "FairHouse$Lifts" "FairHouse$Lifts" "isDown" "()Z") ∈ lw_tbl := lw_at lw_m9 42 rfl
theorem q2081 : (Jvm.Cond.declares ({ cls := "FairHouse$Lifts", name := "isDown", desc := "()Z" } : Jvm.MethodName)) ∈ lw_tbl := lw_at lw_m9 43 rfl
theorem q2083 : (Jvm.Cond.instanceMethod ({ cls := "FairHouse$Lifts", name := "isDown", desc := "()Z" } : Jvm.MethodName)) ∈ lw_all := lw_g (lw_at lw_m9 45 rfl) rfl
theorem q2084 : (Jvm.Cond.publicMethod ({ cls := "FairHouse$Lifts", name := "isDown", desc := "()Z" } : Jvm.MethodName)) ∈ lw_tbl := lw_at lw_m9 46 rfl
theorem q2085 : (Jvm.Cond.code ({ cls := "FairHouse$Lifts", name := "isDown", desc := "()Z" } : Jvm.MethodName) prog_15_method_5_code (1 : Nat) (Option.some Jvm.ClassFile.FieldType.boolean)) ∈ lw_all := lw_g (lw_at lw_m9 47 rfl) rfl
theorem q2086 : (Jvm.Cond.interfaceEntry "FairHouse$Lifts" (1 : Nat)) ∈ lw_tbl := lw_at lw_m9 48 rfl
theorem q2087 : (Jvm.Cond.methodLink "FairHouse$Lifts" (1 : Nat) ({ cls := "FairHouse$Lifts", name := "hoist", desc := "()LFairHouse$Hoist;" } : Jvm.MethodName)) ∈ lw_all := lw_g (lw_at lw_m9 49 rfl) rfl
theorem q2159 : (Jvm.Cond.declares ({ cls := "FairHouse$Lifts", name := "isCalm", desc := "()Z" } : Jvm.MethodName)) ∈ lw_tbl := lw_at lw_m9 121 rfl
theorem q2161 : (Jvm.Cond.instanceMethod ({ cls := "FairHouse$Lifts", name := "isCalm", desc := "()Z" } : Jvm.MethodName)) ∈ lw_all := lw_g (lw_at lw_m9 123 rfl) rfl
theorem q2162 : (Jvm.Cond.publicMethod ({ cls := "FairHouse$Lifts", name := "isCalm", desc := "()Z" } : Jvm.MethodName)) ∈ lw_tbl := lw_at lw_m9 124 rfl
theorem q2163 : (Jvm.Cond.code ({ cls := "FairHouse$Lifts", name := "isCalm", desc := "()Z" } : Jvm.MethodName) prog_15_method_10_code (1 : Nat) (Option.some Jvm.ClassFile.FieldType.boolean)) ∈ lw_all := lw_g (lw_at lw_m9 125 rfl) rfl
theorem q2164 : (Jvm.Cond.interfaceEntry "FairHouse$Lifts" (36 : Nat)) ∈ lw_tbl := lw_at lw_m9 126 rfl
theorem q2165 : (Jvm.Cond.methodLink "FairHouse$Lifts" (36 : Nat) ({ cls := "FairHouse$Lifts", name := "isDown", desc := "()Z" } : Jvm.MethodName)) ∈ lw_all := lw_g (lw_at lw_m9 127 rfl) rfl
theorem q2294 : (Jvm.Cond.interfaceMethod "FairHouse$Lifts" "FairHouse$Lifts" "rise" "()V") ∈ lw_tbl := lw_at lw_m10 16 rfl
theorem q2295 : (Jvm.Cond.declares ({ cls := "FairHouse$Lifts", name := "rise", desc := "()V" } : Jvm.MethodName)) ∈ lw_tbl := lw_at lw_m10 17 rfl
theorem q2297 : (Jvm.Cond.instanceMethod ({ cls := "FairHouse$Lifts", name := "rise", desc := "()V" } : Jvm.MethodName)) ∈ lw_all := lw_g (lw_at lw_m10 19 rfl) rfl
theorem q2298 : (Jvm.Cond.publicMethod ({ cls := "FairHouse$Lifts", name := "rise", desc := "()V" } : Jvm.MethodName)) ∈ lw_tbl := lw_at lw_m10 20 rfl
theorem q2299 : (Jvm.Cond.code ({ cls := "FairHouse$Lifts", name := "rise", desc := "()V" } : Jvm.MethodName) prog_15_method_6_code (1 : Nat) (Option.none : Option Jvm.ClassFile.FieldType)) ∈ lw_all := lw_g (lw_at lw_m10 21 rfl) rfl
theorem q2300 : (Jvm.Cond.methodLink "FairHouse$Lifts" (22 : Nat) ({ cls := "FairHouse$Hoist", name := "near", desc := "(II)V" } : Jvm.MethodName)) ∈ lw_all := lw_g (lw_at lw_m10 22 rfl) rfl
theorem q2330 : (Jvm.Cond.declares ({ cls := "FairHouse$Lifts", name := "ease", desc := "()V" } : Jvm.MethodName)) ∈ lw_tbl := lw_at lw_m10 52 rfl
theorem q2332 : (Jvm.Cond.instanceMethod ({ cls := "FairHouse$Lifts", name := "ease", desc := "()V" } : Jvm.MethodName)) ∈ lw_all := lw_g (lw_at lw_m10 54 rfl) rfl
theorem q2333 : (Jvm.Cond.publicMethod ({ cls := "FairHouse$Lifts", name := "ease", desc := "()V" } : Jvm.MethodName)) ∈ lw_tbl := lw_at lw_m10 55 rfl
theorem q2334 : (Jvm.Cond.code ({ cls := "FairHouse$Lifts", name := "ease", desc := "()V" } : Jvm.MethodName) prog_15_method_12_code (1 : Nat) (Option.none : Option Jvm.ClassFile.FieldType)) ∈ lw_all := lw_g (lw_at lw_m10 56 rfl) rfl
theorem q2335 : (Jvm.Cond.interfaceEntry "FairHouse$Lifts" (40 : Nat)) ∈ lw_tbl := lw_at lw_m10 57 rfl
theorem q2336 : (Jvm.Cond.methodLink "FairHouse$Lifts" (40 : Nat) ({ cls := "FairHouse$Lifts", name := "rise", desc := "()V" } : Jvm.MethodName)) ∈ lw_all := lw_g (lw_at lw_m10 58 rfl) rfl
theorem q2377 : (Jvm.Cond.interfaceMethod "FairHouse$Lifts" "FairHouse$Lifts" "heave" "()I") ∈ lw_tbl := lw_at lw_m10 99 rfl
theorem q2378 : (Jvm.Cond.declares ({ cls := "FairHouse$Lifts", name := "heave", desc := "()I" } : Jvm.MethodName)) ∈ lw_tbl := lw_at lw_m10 100 rfl
theorem q2380 : (Jvm.Cond.instanceMethod ({ cls := "FairHouse$Lifts", name := "heave", desc := "()I" } : Jvm.MethodName)) ∈ lw_all := lw_g (lw_at lw_m10 102 rfl) rfl
theorem q2381 : (Jvm.Cond.publicMethod ({ cls := "FairHouse$Lifts", name := "heave", desc := "()I" } : Jvm.MethodName)) ∈ lw_tbl := lw_at lw_m10 103 rfl
theorem q2382 : (Jvm.Cond.code ({ cls := "FairHouse$Lifts", name := "heave", desc := "()I" } : Jvm.MethodName) prog_15_method_2_code (1 : Nat) (Option.some Jvm.ClassFile.FieldType.int)) ∈ lw_all := lw_g (lw_at lw_m10 104 rfl) rfl
theorem q2457 : (Jvm.Cond.declares ({ cls := "FairHouse$Lifts", name := "draw", desc := "()I" } : Jvm.MethodName)) ∈ lw_tbl := lw_at lw_m10 179 rfl
theorem q2459 : (Jvm.Cond.instanceMethod ({ cls := "FairHouse$Lifts", name := "draw", desc := "()I" } : Jvm.MethodName)) ∈ lw_all := lw_g (lw_at lw_m10 181 rfl) rfl
theorem q2460 : (Jvm.Cond.publicMethod ({ cls := "FairHouse$Lifts", name := "draw", desc := "()I" } : Jvm.MethodName)) ∈ lw_tbl := lw_at lw_m10 182 rfl
theorem q2461 : (Jvm.Cond.code ({ cls := "FairHouse$Lifts", name := "draw", desc := "()I" } : Jvm.MethodName) prog_15_method_7_code (1 : Nat) (Option.some Jvm.ClassFile.FieldType.int)) ∈ lw_all := lw_g (lw_at lw_m10 183 rfl) rfl
theorem q2462 : (Jvm.Cond.interfaceEntry "FairHouse$Lifts" (26 : Nat)) ∈ lw_tbl := lw_at lw_m10 184 rfl
theorem q2463 : (Jvm.Cond.methodLink "FairHouse$Lifts" (26 : Nat) ({ cls := "FairHouse$Lifts", name := "heave", desc := "()I" } : Jvm.MethodName)) ∈ lw_all := lw_g (lw_at lw_m10 185 rfl) rfl
theorem q2485 : (Jvm.Cond.declares ({ cls := "FairHouse$Lifts", name := "limit", desc := "()I" } : Jvm.MethodName)) ∈ lw_tbl := lw_at lw_m10 207 rfl
theorem q2487 : (Jvm.Cond.instanceMethod ({ cls := "FairHouse$Lifts", name := "limit", desc := "()I" } : Jvm.MethodName)) ∈ lw_all := lw_g (lw_at lw_m10 209 rfl) rfl
theorem q2488 : (Jvm.Cond.publicMethod ({ cls := "FairHouse$Lifts", name := "limit", desc := "()I" } : Jvm.MethodName)) ∈ lw_tbl := lw_at lw_m10 210 rfl
theorem q2489 : (Jvm.Cond.code ({ cls := "FairHouse$Lifts", name := "limit", desc := "()I" } : Jvm.MethodName) prog_15_method_11_code (1 : Nat) (Option.some Jvm.ClassFile.FieldType.int)) ∈ lw_all := lw_g (lw_at lw_m10 211 rfl) rfl
theorem q2524 : (Jvm.Cond.interfaceMethod "FairHouse$Lifts" "FairHouse$Lifts" "rub" "()I") ∈ lw_tbl := lw_at lw_m11 6 rfl
theorem q2525 : (Jvm.Cond.declares ({ cls := "FairHouse$Lifts", name := "rub", desc := "()I" } : Jvm.MethodName)) ∈ lw_tbl := lw_at lw_m11 7 rfl
theorem q2527 : (Jvm.Cond.instanceMethod ({ cls := "FairHouse$Lifts", name := "rub", desc := "()I" } : Jvm.MethodName)) ∈ lw_all := lw_g (lw_at lw_m11 9 rfl) rfl
theorem q2528 : (Jvm.Cond.publicMethod ({ cls := "FairHouse$Lifts", name := "rub", desc := "()I" } : Jvm.MethodName)) ∈ lw_tbl := lw_at lw_m11 10 rfl
theorem q2529 : (Jvm.Cond.code ({ cls := "FairHouse$Lifts", name := "rub", desc := "()I" } : Jvm.MethodName) prog_15_method_4_code (1 : Nat) (Option.some Jvm.ClassFile.FieldType.int)) ∈ lw_all := lw_g (lw_at lw_m11 11 rfl) rfl
theorem q2555 : (Jvm.Cond.declares ({ cls := "FairHouse$Lifts", name := "tear", desc := "()I" } : Jvm.MethodName)) ∈ lw_tbl := lw_at lw_m11 37 rfl
theorem q2557 : (Jvm.Cond.instanceMethod ({ cls := "FairHouse$Lifts", name := "tear", desc := "()I" } : Jvm.MethodName)) ∈ lw_all := lw_g (lw_at lw_m11 39 rfl) rfl
theorem q2558 : (Jvm.Cond.publicMethod ({ cls := "FairHouse$Lifts", name := "tear", desc := "()I" } : Jvm.MethodName)) ∈ lw_tbl := lw_at lw_m11 40 rfl
theorem q2559 : (Jvm.Cond.code ({ cls := "FairHouse$Lifts", name := "tear", desc := "()I" } : Jvm.MethodName) prog_15_method_9_code (1 : Nat) (Option.some Jvm.ClassFile.FieldType.int)) ∈ lw_all := lw_g (lw_at lw_m11 41 rfl) rfl
theorem q2560 : (Jvm.Cond.interfaceEntry "FairHouse$Lifts" (33 : Nat)) ∈ lw_tbl := lw_at lw_m11 42 rfl
theorem q2561 : (Jvm.Cond.methodLink "FairHouse$Lifts" (33 : Nat) ({ cls := "FairHouse$Lifts", name := "rub", desc := "()I" } : Jvm.MethodName)) ∈ lw_all := lw_g (lw_at lw_m11 43 rfl) rfl
theorem q2594 : (Jvm.Cond.interfaceMethod "FairHouse$Lifts" "FairHouse$Lifts" "creak" "()I") ∈ lw_tbl := lw_at lw_m11 76 rfl
theorem q2595 : (Jvm.Cond.declares ({ cls := "FairHouse$Lifts", name := "creak", desc := "()I" } : Jvm.MethodName)) ∈ lw_tbl := lw_at lw_m11 77 rfl
theorem q2597 : (Jvm.Cond.instanceMethod ({ cls := "FairHouse$Lifts", name := "creak", desc := "()I" } : Jvm.MethodName)) ∈ lw_all := lw_g (lw_at lw_m11 79 rfl) rfl
theorem q2598 : (Jvm.Cond.publicMethod ({ cls := "FairHouse$Lifts", name := "creak", desc := "()I" } : Jvm.MethodName)) ∈ lw_tbl := lw_at lw_m11 80 rfl
theorem q2599 : (Jvm.Cond.code ({ cls := "FairHouse$Lifts", name := "creak", desc := "()I" } : Jvm.MethodName) prog_15_method_3_code (1 : Nat) (Option.some Jvm.ClassFile.FieldType.int)) ∈ lw_all := lw_g (lw_at lw_m11 81 rfl) rfl
theorem q2647 : (Jvm.Cond.declares ({ cls := "FairHouse$Lifts", name := "noise", desc := "()I" } : Jvm.MethodName)) ∈ lw_tbl := lw_at lw_m11 129 rfl
theorem q2649 : (Jvm.Cond.instanceMethod ({ cls := "FairHouse$Lifts", name := "noise", desc := "()I" } : Jvm.MethodName)) ∈ lw_all := lw_g (lw_at lw_m11 131 rfl) rfl
theorem q2650 : (Jvm.Cond.publicMethod ({ cls := "FairHouse$Lifts", name := "noise", desc := "()I" } : Jvm.MethodName)) ∈ lw_tbl := lw_at lw_m11 132 rfl
theorem q2651 : (Jvm.Cond.code ({ cls := "FairHouse$Lifts", name := "noise", desc := "()I" } : Jvm.MethodName) prog_15_method_8_code (1 : Nat) (Option.some Jvm.ClassFile.FieldType.int)) ∈ lw_all := lw_g (lw_at lw_m11 133 rfl) rfl
theorem q2652 : (Jvm.Cond.interfaceEntry "FairHouse$Lifts" (30 : Nat)) ∈ lw_tbl := lw_at lw_m11 134 rfl
theorem q2653 : (Jvm.Cond.methodLink "FairHouse$Lifts" (30 : Nat) ({ cls := "FairHouse$Lifts", name := "creak", desc := "()I" } : Jvm.MethodName)) ∈ lw_all := lw_g (lw_at lw_m11 135 rfl) rfl
theorem q3386 : (Jvm.Cond.initialized "FairHouse$Lifts") ∈ lw_all := lw_g (lw_at lw_m14 148 rfl) rfl
theorem q1240 : (Jvm.Cond.fieldLinkNest "FairHouse$Sounds" (7 : Nat) "FairHouse$Voice" "volume" "I" "FairHouse") ∈ lw_tbl := lw_at lw_m5 162 rfl
theorem q1799 : (Jvm.Cond.interfaceMethod "FairHouse$Sounds" "FairHouse$Sounds" "voice" "()LFairHouse$Voice;") ∈ lw_tbl := lw_at lw_m8 1 rfl
theorem q1800 : (Jvm.Cond.declares ({ cls := "FairHouse$Sounds", name := "voice", desc := "()LFairHouse$Voice;" } : Jvm.MethodName)) ∈ lw_tbl := lw_at lw_m8 2 rfl
theorem q2099 : (Jvm.Cond.interfaceMethod "FairHouse$Sounds" "FairHouse$Sounds" "isSoft" "()Z") ∈ lw_tbl := lw_at lw_m9 61 rfl
theorem q2100 : (Jvm.Cond.declares ({ cls := "FairHouse$Sounds", name := "isSoft", desc := "()Z" } : Jvm.MethodName)) ∈ lw_tbl := lw_at lw_m9 62 rfl
theorem q2102 : (Jvm.Cond.instanceMethod ({ cls := "FairHouse$Sounds", name := "isSoft", desc := "()Z" } : Jvm.MethodName)) ∈ lw_all := lw_g (lw_at lw_m9 64 rfl) rfl
theorem q2103 : (Jvm.Cond.publicMethod ({ cls := "FairHouse$Sounds", name := "isSoft", desc := "()Z" } : Jvm.MethodName)) ∈ lw_tbl := lw_at lw_m9 65 rfl
theorem q2104 : (Jvm.Cond.code ({ cls := "FairHouse$Sounds", name := "isSoft", desc := "()Z" } : Jvm.MethodName) prog_30_method_3_code (1 : Nat) (Option.some Jvm.ClassFile.FieldType.boolean)) ∈ lw_all := lw_g (lw_at lw_m9 66 rfl) rfl
theorem q2105 : (Jvm.Cond.interfaceEntry "FairHouse$Sounds" (1 : Nat)) ∈ lw_tbl := lw_at lw_m9 67 rfl
theorem q2106 : (Jvm.Cond.methodLink "FairHouse$Sounds" (1 : Nat) ({ cls := "FairHouse$Sounds", name := "voice", desc := "()LFairHouse$Voice;" } : Jvm.MethodName)) ∈ lw_all := lw_g (lw_at lw_m9 68 rfl) rfl
theorem q2390 : (Jvm.Cond.interfaceMethod "FairHouse$Sounds" "FairHouse$Sounds" "hiss" "()I") ∈ lw_tbl := lw_at lw_m10 112 rfl
theorem q2391 : (Jvm.Cond.declares ({ cls := "FairHouse$Sounds", name := "hiss", desc := "()I" } : Jvm.MethodName)) ∈ lw_tbl := lw_at lw_m10 113 rfl
theorem q2393 : (Jvm.Cond.instanceMethod ({ cls := "FairHouse$Sounds", name := "hiss", desc := "()I" } : Jvm.MethodName)) ∈ lw_all := lw_g (lw_at lw_m10 115 rfl) rfl
theorem q2394 : (Jvm.Cond.publicMethod ({ cls := "FairHouse$Sounds", name := "hiss", desc := "()I" } : Jvm.MethodName)) ∈ lw_tbl := lw_at lw_m10 116 rfl
theorem q2395 : (Jvm.Cond.code ({ cls := "FairHouse$Sounds", name := "hiss", desc := "()I" } : Jvm.MethodName) prog_30_method_2_code (1 : Nat) (Option.some Jvm.ClassFile.FieldType.int)) ∈ lw_all := lw_g (lw_at lw_m10 117 rfl) rfl
theorem q3387 : (Jvm.Cond.initialized "FairHouse$Sounds") ∈ lw_all := lw_g (lw_at lw_m14 149 rfl) rfl
theorem q1274 : (Jvm.Cond.fieldLinkNest "FairHouse$Lamps" (13 : Nat) "FairHouse$Light" "watts" "I" "FairHouse") ∈ lw_tbl := lw_at lw_m5 196 rfl
theorem q1275 : (Jvm.Cond.fieldLinkNest "FairHouse$Lamps" (7 : Nat) "FairHouse$Light" "glow" "I" "FairHouse") ∈ lw_tbl := lw_at lw_m5 197 rfl
theorem q1770 : (Jvm.Cond.interfaceMethod "FairHouse$Lamps" "FairHouse$Lamps" "light" "()LFairHouse$Light;") ∈ lw_tbl := lw_at lw_m7 212 rfl
theorem q1771 : (Jvm.Cond.declares ({ cls := "FairHouse$Lamps", name := "light", desc := "()LFairHouse$Light;" } : Jvm.MethodName)) ∈ lw_tbl := lw_at lw_m7 213 rfl
theorem q2352 : (Jvm.Cond.declares ({ cls := "FairHouse$Lamps", name := "draw", desc := "()I" } : Jvm.MethodName)) ∈ lw_tbl := lw_at lw_m10 74 rfl
theorem q2354 : (Jvm.Cond.instanceMethod ({ cls := "FairHouse$Lamps", name := "draw", desc := "()I" } : Jvm.MethodName)) ∈ lw_all := lw_g (lw_at lw_m10 76 rfl) rfl
theorem q2355 : (Jvm.Cond.publicMethod ({ cls := "FairHouse$Lamps", name := "draw", desc := "()I" } : Jvm.MethodName)) ∈ lw_tbl := lw_at lw_m10 77 rfl
theorem q2356 : (Jvm.Cond.code ({ cls := "FairHouse$Lamps", name := "draw", desc := "()I" } : Jvm.MethodName) prog_14_method_3_code (1 : Nat) (Option.some Jvm.ClassFile.FieldType.int)) ∈ lw_all := lw_g (lw_at lw_m10 78 rfl) rfl
theorem q2357 : (Jvm.Cond.interfaceEntry "FairHouse$Lamps" (16 : Nat)) ∈ lw_tbl := lw_at lw_m10 79 rfl
theorem q2358 : (Jvm.Cond.methodLink "FairHouse$Lamps" (16 : Nat) ({ cls := "FairHouse$Lamps", name := "burn", desc := "()I" } : Jvm.MethodName)) ∈ lw_all := lw_g (lw_at lw_m10 80 rfl) rfl
theorem q2359 : (Jvm.Cond.interfaceMethod "FairHouse$Lamps" "FairHouse$Lamps" "burn" "()I") ∈ lw_tbl := lw_at lw_m10 81 rfl
theorem q2360 : (Jvm.Cond.declares ({ cls := "FairHouse$Lamps", name := "burn", desc := "()I" } : Jvm.MethodName)) ∈ lw_tbl := lw_at lw_m10 82 rfl
theorem q2362 : (Jvm.Cond.instanceMethod ({ cls := "FairHouse$Lamps", name := "burn", desc := "()I" } : Jvm.MethodName)) ∈ lw_all := lw_g (lw_at lw_m10 84 rfl) rfl
theorem q2363 : (Jvm.Cond.publicMethod ({ cls := "FairHouse$Lamps", name := "burn", desc := "()I" } : Jvm.MethodName)) ∈ lw_tbl := lw_at lw_m10 85 rfl
theorem q2364 : (Jvm.Cond.code ({ cls := "FairHouse$Lamps", name := "burn", desc := "()I" } : Jvm.MethodName) prog_14_method_2_code (1 : Nat) (Option.some Jvm.ClassFile.FieldType.int)) ∈ lw_all := lw_g (lw_at lw_m10 86 rfl) rfl
theorem q2365 : (Jvm.Cond.interfaceEntry "FairHouse$Lamps" (1 : Nat)) ∈ lw_tbl := lw_at lw_m10 87 rfl
theorem q2366 : (Jvm.Cond.methodLink "FairHouse$Lamps" (1 : Nat) ({ cls := "FairHouse$Lamps", name := "light", desc := "()LFairHouse$Light;" } : Jvm.MethodName)) ∈ lw_all := lw_g (lw_at lw_m10 88 rfl) rfl
theorem q3391 : (Jvm.Cond.initialized "FairHouse$Lamps") ∈ lw_all := lw_g (lw_at lw_m14 153 rfl) rfl
theorem q1828 : (Jvm.Cond.interfaceMethod "FairHouse$Seats" "FairHouse$Seats" "bench" "()LFairHouse$Bench;") ∈ lw_tbl := lw_at lw_m8 30 rfl
theorem q1829 : (Jvm.Cond.declares ({ cls := "FairHouse$Seats", name := "bench", desc := "()LFairHouse$Bench;" } : Jvm.MethodName)) ∈ lw_tbl := lw_at lw_m8 31 rfl
theorem q2171 : (Jvm.Cond.interfaceMethod "FairHouse$Seats" "FairHouse$Seats" "board" "(I)I") ∈ lw_tbl := lw_at lw_m9 133 rfl
theorem q2172 : (Jvm.Cond.declares ({ cls := "FairHouse$Seats", name := "board", desc := "(I)I" } : Jvm.MethodName)) ∈ lw_tbl := lw_at lw_m9 134 rfl
theorem q2174 : (Jvm.Cond.instanceMethod ({ cls := "FairHouse$Seats", name := "board", desc := "(I)I" } : Jvm.MethodName)) ∈ lw_all := lw_g (lw_at lw_m9 136 rfl) rfl
theorem q2175 : (Jvm.Cond.publicMethod ({ cls := "FairHouse$Seats", name := "board", desc := "(I)I" } : Jvm.MethodName)) ∈ lw_tbl := lw_at lw_m9 137 rfl
theorem q2176 : (Jvm.Cond.code ({ cls := "FairHouse$Seats", name := "board", desc := "(I)I" } : Jvm.MethodName) prog_27_method_2_code (2 : Nat) (Option.some Jvm.ClassFile.FieldType.int)) ∈ lw_all := lw_g (lw_at lw_m9 138 rfl) rfl
theorem q2177 : (Jvm.Cond.interfaceEntry "FairHouse$Seats" (1 : Nat)) ∈ lw_tbl := lw_at lw_m9 139 rfl
theorem q2178 : (Jvm.Cond.methodLink "FairHouse$Seats" (1 : Nat) ({ cls := "FairHouse$Seats", name := "bench", desc := "()LFairHouse$Bench;" } : Jvm.MethodName)) ∈ lw_all := lw_g (lw_at lw_m9 140 rfl) rfl
theorem q2179 : (Jvm.Cond.methodLink "FairHouse$Seats" (7 : Nat) ({ cls := "FairHouse$Bench", name := "board", desc := "(I)I" } : Jvm.MethodName)) ∈ lw_all := lw_g (lw_at lw_m9 141 rfl) rfl
theorem q3389 : (Jvm.Cond.initialized "FairHouse$Seats") ∈ lw_all := lw_g (lw_at lw_m14 151 rfl) rfl
theorem q2065 : (Jvm.Cond.interfaceMethod "FairHouse$Machine" "FairHouse$Machine" "isCalm" "()Z") ∈ lw_tbl := lw_at lw_m9 27 rfl
theorem q2066 : (Jvm.Cond.declares ({ cls := "FairHouse$Machine", name := "isCalm", desc := "()Z" } : Jvm.MethodName)) ∈ lw_tbl := lw_at lw_m9 28 rfl
theorem q2069 : (Jvm.Cond.instanceMethod ({ cls := "FairHouse$Machine", name := "isCalm", desc := "()Z" } : Jvm.MethodName)) ∈ lw_all := lw_g (lw_at lw_m9 31 rfl) rfl
theorem q2070 : (Jvm.Cond.publicMethod ({ cls := "FairHouse$Machine", name := "isCalm", desc := "()Z" } : Jvm.MethodName)) ∈ lw_tbl := lw_at lw_m9 32 rfl
theorem q2071 : (Jvm.Cond.code ({ cls := "FairHouse$Machine", name := "isCalm", desc := "()Z" } : Jvm.MethodName) prog_17_method_4_code (1 : Nat) (Option.some Jvm.ClassFile.FieldType.boolean)) ∈ lw_all := lw_g (lw_at lw_m9 33 rfl) rfl
theorem q2243 : (Jvm.Cond.interfaceMethod "FairHouse$Machine" "FairHouse$Machine" "ease" "()V") ∈ lw_tbl := lw_at lw_m9 205 rfl
theorem q2244 : (Jvm.Cond.declares ({ cls := "FairHouse$Machine", name := "ease", desc := "()V" } : Jvm.MethodName)) ∈ lw_tbl := lw_at lw_m9 206 rfl
theorem q2246 : (Jvm.Cond.instanceMethod ({ cls := "FairHouse$Machine", name := "ease", desc := "()V" } : Jvm.MethodName)) ∈ lw_all := lw_g (lw_at lw_m9 208 rfl) rfl
theorem q2247 : (Jvm.Cond.publicMethod ({ cls := "FairHouse$Machine", name := "ease", desc := "()V" } : Jvm.MethodName)) ∈ lw_tbl := lw_at lw_m9 209 rfl
theorem q2248 : (Jvm.Cond.code ({ cls := "FairHouse$Machine", name := "ease", desc := "()V" } : Jvm.MethodName) prog_17_method_6_code (1 : Nat) (Option.none : Option Jvm.ClassFile.FieldType)) ∈ lw_all := lw_g (lw_at lw_m9 210 rfl) rfl
theorem q2350 : (Jvm.Cond.interfaceMethod "FairHouse$Machine" "FairHouse$Machine" "draw" "()I") ∈ lw_tbl := lw_at lw_m10 72 rfl
theorem q2351 : (Jvm.Cond.declares ({ cls := "FairHouse$Machine", name := "draw", desc := "()I" } : Jvm.MethodName)) ∈ lw_tbl := lw_at lw_m10 73 rfl
theorem q2479 : (Jvm.Cond.interfaceMethod "FairHouse$Machine" "FairHouse$Machine" "limit" "()I") ∈ lw_tbl := lw_at lw_m10 201 rfl
theorem q2480 : (Jvm.Cond.declares ({ cls := "FairHouse$Machine", name := "limit", desc := "()I" } : Jvm.MethodName)) ∈ lw_tbl := lw_at lw_m10 202 rfl
theorem q2482 : (Jvm.Cond.instanceMethod ({ cls := "FairHouse$Machine", name := "limit", desc := "()I" } : Jvm.MethodName)) ∈ lw_all := lw_g (lw_at lw_m10 204 rfl) rfl
theorem q2483 : (Jvm.Cond.publicMethod ({ cls := "FairHouse$Machine", name := "limit", desc := "()I" } : Jvm.MethodName)) ∈ lw_tbl := lw_at lw_m10 205 rfl
theorem q2484 : (Jvm.Cond.code ({ cls := "FairHouse$Machine", name := "limit", desc := "()I" } : Jvm.MethodName) prog_17_method_5_code (1 : Nat) (Option.some Jvm.ClassFile.FieldType.int)) ∈ lw_all := lw_g (lw_at lw_m10 206 rfl) rfl
theorem q2511 : (Jvm.Cond.interfaceMethod "FairHouse$Machine" "FairHouse$Machine" "tear" "()I") ∈ lw_tbl := lw_at lw_m10 233 rfl
theorem q2512 : (Jvm.Cond.declares ({ cls := "FairHouse$Machine", name := "tear", desc := "()I" } : Jvm.MethodName)) ∈ lw_tbl := lw_at lw_m10 234 rfl
theorem q2514 : (Jvm.Cond.instanceMethod ({ cls := "FairHouse$Machine", name := "tear", desc := "()I" } : Jvm.MethodName)) ∈ lw_all := lw_g (lw_at lw_m10 236 rfl) rfl
theorem q2515 : (Jvm.Cond.publicMethod ({ cls := "FairHouse$Machine", name := "tear", desc := "()I" } : Jvm.MethodName)) ∈ lw_tbl := lw_at lw_m10 237 rfl
theorem q2516 : (Jvm.Cond.code ({ cls := "FairHouse$Machine", name := "tear", desc := "()I" } : Jvm.MethodName) prog_17_method_3_code (1 : Nat) (Option.some Jvm.ClassFile.FieldType.int)) ∈ lw_all := lw_g (lw_at lw_m10 238 rfl) rfl
theorem q2581 : (Jvm.Cond.interfaceMethod "FairHouse$Machine" "FairHouse$Machine" "noise" "()I") ∈ lw_tbl := lw_at lw_m11 63 rfl
theorem q2582 : (Jvm.Cond.declares ({ cls := "FairHouse$Machine", name := "noise", desc := "()I" } : Jvm.MethodName)) ∈ lw_tbl := lw_at lw_m11 64 rfl
theorem q2584 : (Jvm.Cond.instanceMethod ({ cls := "FairHouse$Machine", name := "noise", desc := "()I" } : Jvm.MethodName)) ∈ lw_all := lw_g (lw_at lw_m11 66 rfl) rfl
theorem q2585 : (Jvm.Cond.publicMethod ({ cls := "FairHouse$Machine", name := "noise", desc := "()I" } : Jvm.MethodName)) ∈ lw_tbl := lw_at lw_m11 67 rfl
theorem q2586 : (Jvm.Cond.code ({ cls := "FairHouse$Machine", name := "noise", desc := "()I" } : Jvm.MethodName) prog_17_method_2_code (1 : Nat) (Option.some Jvm.ClassFile.FieldType.int)) ∈ lw_all := lw_g (lw_at lw_m11 68 rfl) rfl
theorem q3385 : (Jvm.Cond.initialized "FairHouse$Machine") ∈ lw_all := lw_g (lw_at lw_m14 147 rfl) rfl
theorem q142 : (Jvm.Cond.initialized "FairHouse$Sort") ∈ lw_all := lw_g (lw_at lw_m1 24 rfl) rfl
theorem q710 : (Jvm.Cond.laysStatic "FairHouse$Sort" "END" "LFairHouse$Sort;") ∈ lw_tbl := lw_at lw_m3 112 rfl
theorem q722 : (Jvm.Cond.laysStatic "FairHouse$Sort" "BAD" "LFairHouse$Sort;") ∈ lw_tbl := lw_at lw_m3 124 rfl
theorem q724 : (Jvm.Cond.laysStatic "FairHouse$Sort" "WORD" "LFairHouse$Sort;") ∈ lw_tbl := lw_at lw_m3 126 rfl
theorem q730 : (Jvm.Cond.laysStatic "FairHouse$Sort" "NUMBER" "LFairHouse$Sort;") ∈ lw_tbl := lw_at lw_m3 132 rfl
theorem q736 : (Jvm.Cond.laysStatic "FairHouse$Sort" "SIGN" "LFairHouse$Sort;") ∈ lw_tbl := lw_at lw_m3 138 rfl
theorem q963 : (Jvm.Cond.selects "FairHouse$Sort" ({ cls := "java/lang/Object", name := "getClass", desc := "()Ljava/lang/Class;" } : Jvm.MethodName) ({ cls := "java/lang/Object", name := "getClass", desc := "()Ljava/lang/Class;" } : Jvm.MethodName)) ∈ lw_all := lw_g (lw_at lw_m4 125 rfl) rfl
theorem q3418 : (Jvm.Cond.castable "FairHouse$Sort" "java/lang/Object") ∈ lw_tbl := lw_at lw_m14 180 rfl
theorem q437 : (Jvm.Cond.sameMethod "[B" "java/lang/Object" "clone" "()Ljava/lang/Object;") ∈ lw_all := lw_g (lw_at lw_m2 79 rfl) rfl
theorem q440 : (Jvm.Cond.selects "[B" ({ cls := "[B", name := "clone", desc := "()Ljava/lang/Object;" } : Jvm.MethodName) ({ cls := "java/lang/Object", name := "clone", desc := "()Ljava/lang/Object;" } : Jvm.MethodName)) ∈ lw_all := lw_g (lw_at lw_m2 82 rfl) rfl
theorem q441 : (Jvm.Cond.castable "[B" "java/lang/Cloneable") ∈ lw_tbl := lw_at lw_m2 83 rfl
theorem q3453 : (Jvm.Cond.castable "[B" "java/lang/Object") ∈ lw_tbl := lw_at lw_m14 215 rfl
theorem q3454 : (Jvm.Cond.castable "[I" "java/lang/Object") ∈ lw_tbl := lw_at lw_m14 216 rfl
theorem q3458 : (Jvm.Cond.castable "[J" "java/lang/Object") ∈ lw_tbl := lw_at lw_m14 220 rfl
theorem q3450 : (Jvm.Cond.sameMethod "[Ljava/lang/Object;" "java/lang/Object" "getClass" "()Ljava/lang/Class;") ∈ lw_all := lw_g (lw_at lw_m14 212 rfl) rfl
theorem q3451 : (Jvm.Cond.selects "[Ljava/lang/Object;" ({ cls := "java/lang/Object", name := "getClass", desc := "()Ljava/lang/Class;" } : Jvm.MethodName) ({ cls := "java/lang/Object", name := "getClass", desc := "()Ljava/lang/Class;" } : Jvm.MethodName)) ∈ lw_all := lw_g (lw_at lw_m14 213 rfl) rfl
theorem q3456 : (Jvm.Cond.castable "[Ljava/lang/Object;" "java/lang/Object") ∈ lw_tbl := lw_at lw_m14 218 rfl
theorem q3457 : (Jvm.Cond.castable "[Ljava/lang/String;" "java/lang/Object") ∈ lw_tbl := lw_at lw_m14 219 rfl
theorem q3455 : (Jvm.Cond.castable "[Z" "java/lang/Object") ∈ lw_tbl := lw_at lw_m14 217 rfl
theorem q141 : (Jvm.Cond.initialized "java/lang/Enum") ∈ lw_all := lw_g (lw_at lw_m1 23 rfl) rfl
theorem q139 : (Jvm.Cond.initialized "java/lang/Number") ∈ lw_all := lw_g (lw_at lw_m1 21 rfl) rfl
theorem q136 : (Jvm.Cond.initialized "java/lang/System") ∈ lw_all := lw_g (lw_at lw_m1 18 rfl) rfl
theorem q447 : (Jvm.Cond.static ({ cls := "java/lang/System", name := "arraycopy", desc := "(Ljava/lang/Object;ILjava/lang/Object;II)V" } : Jvm.MethodName)) ∈ lw_all := lw_g (lw_at lw_m2 89 rfl) rfl
theorem q448 : (Jvm.Cond.native ({ cls := "java/lang/System", name := "arraycopy", desc := "(Ljava/lang/Object;ILjava/lang/Object;II)V" } : Jvm.MethodName)) ∈ lw_all := lw_g (lw_at lw_m2 90 rfl) rfl
theorem q245 : (Jvm.Cond.arrayClass Jvm.ClassFile.FieldType.byte) ∈ lw_all := lw_g (lw_at lw_m1 127 rfl) rfl
theorem q246 : (Jvm.Cond.arrayClass Jvm.ClassFile.FieldType.int) ∈ lw_all := lw_g (lw_at lw_m1 128 rfl) rfl
theorem q247 : (Jvm.Cond.arrayClass Jvm.ClassFile.FieldType.boolean) ∈ lw_all := lw_g (lw_at lw_m1 129 rfl) rfl
theorem q367 : (Jvm.Cond.arrayOver (Jvm.ClassFile.FieldType.object "java/lang/Object")) ∈ lw_tbl := lw_at lw_m2 9 rfl
theorem q2715 : (Jvm.Cond.arrayOver (Jvm.ClassFile.FieldType.object "java/lang/String")) ∈ lw_tbl := lw_at lw_m11 197 rfl
theorem q3374 : (Jvm.Cond.arrayClass Jvm.ClassFile.FieldType.long) ∈ lw_all := lw_g (lw_at lw_m14 136 rfl) rfl
theorem in_J0 : ∀ w ∈ wsJ00, w ∈ lw_all := lw_in wsJ00 [277, 279, 281, 283, 285] (by decide +kernel) (by decide +kernel)
theorem in_J3 : ∀ w ∈ wsJ30, w ∈ lw_all := lw_in wsJ30 [276, 278, 280, 282, 284, 327] (by decide +kernel) (by decide +kernel)
theorem in_J6 : ∀ w ∈ wsJ60, w ∈ lw_all := lw_in wsJ60 [360, 356, 358] (by decide +kernel) (by decide +kernel)
theorem in_J8 : ∀ w ∈ wsJ80, w ∈ lw_all := lw_in wsJ80 [393, 395, 397, 399] (by decide +kernel) (by decide +kernel)
theorem in_J9 : ∀ w ∈ wsJ90, w ∈ lw_all := lw_in wsJ90 [618, 620, 622, 624] (by decide +kernel) (by decide +kernel)
theorem in_J20 : ∀ w ∈ wsJ200, w ∈ lw_all := lw_in wsJ200 [1903, 1904, 1905, 1906, 1907, 1912] (by decide +kernel) (by decide +kernel)
theorem in_J21 : ∀ w ∈ wsJ210, w ∈ lw_all := lw_in wsJ210 [1881, 1882, 1883, 1884, 1885, 1886] (by decide +kernel) (by decide +kernel)
theorem in_J22 : ∀ w ∈ wsJ220, w ∈ lw_all := lw_in wsJ220 [1937, 1938, 1939, 1940, 1941, 1946] (by decide +kernel) (by decide +kernel)
theorem in_X1 : ∀ w ∈ wsX10, w ∈ lw_all := lw_in wsX10 [210, 212, 214, 216, 218, 220, 222, 224, 226, 228, 230, 232, 234, 236, 238, 240, 242] (by decide +kernel) (by decide +kernel)
theorem in_X2 : ∀ w ∈ wsX20, w ∈ lw_all := lw_in wsX20 [2858, 2860, 2862, 2864, 2866, 2868, 2870, 2872, 2874, 2876, 2878, 2880, 2882, 2884, 2886, 2888, 2890, 2892, 2894, 2896, 2898, 2900, 2902, 2904, 2906, 2908, 2910, 2912, 2914, 2916, 2918, 2920, 2922, 2924, 2926, 2928, 2930, 2932, 2934, 2936, 2938, 2940, 2942, 2944, 2946, 2948, 2950, 2952, 2954, 2956, 2958, 2960, 2962, 2964, 2966, 2968, 2970, 2972, 2974, 2976, 2978, 2980, 2982, 2984, 2986, 2988, 2990, 2992, 2994, 2996, 2998, 3000, 3002, 3004, 3006, 3008, 3010, 3012, 3014, 3016, 3018, 3020, 3022, 3024, 3026, 3028, 3030, 3032, 3034, 3036, 3038] (by decide +kernel) (by decide +kernel)
theorem in_X3 : ∀ w ∈ wsX30, w ∈ lw_all := lw_in wsX30 [654, 656, 658, 660, 662, 664, 666, 668, 670, 672, 674, 676, 678, 680, 682, 684, 686, 688, 690, 692, 694] (by decide +kernel) (by decide +kernel)
theorem in_X4 : ∀ w ∈ wsX40, w ∈ lw_all := lw_in wsX40 [825, 826, 827, 828, 829, 842, 838, 840] (by decide +kernel) (by decide +kernel)
theorem in_X5 : ∀ w ∈ wsX50, w ∈ lw_all := lw_in wsX50 [913, 915, 917] (by decide +kernel) (by decide +kernel)
theorem in_X7 : ∀ w ∈ wsX70, w ∈ lw_all := lw_in wsX70 [1146, 1148, 1150, 1142, 1144] (by decide +kernel) (by decide +kernel)
theorem in_X8 : ∀ w ∈ wsX80, w ∈ lw_all := lw_in wsX80 [1043, 1045, 1047, 1049, 1051, 1053, 1055, 1057, 1059, 1061, 1063, 1065, 1067] (by decide +kernel) (by decide +kernel)
theorem in_X9 : ∀ w ∈ wsX90, w ∈ lw_all := lw_in wsX90 [1088, 1090, 1092, 1094] (by decide +kernel) (by decide +kernel)
theorem in_X10 : ∀ w ∈ wsX100, w ∈ lw_all := lw_in wsX100 [1115, 1117, 1119, 1121, 1123, 1125, 1127, 1129] (by decide +kernel) (by decide +kernel)
theorem in_X11 : ∀ w ∈ wsX110, w ∈ lw_all := lw_in wsX110 [1199, 1200, 1201, 1195, 1197] (by decide +kernel) (by decide +kernel)
theorem in_X12 : ∀ w ∈ wsX120, w ∈ lw_all := lw_in wsX120 [1180, 1182, 1184, 1186, 1188] (by decide +kernel) (by decide +kernel)
theorem in_X13 : ∀ w ∈ wsX130, w ∈ lw_all := lw_in wsX130 [1224, 1225, 1226, 1218, 1220, 1222] (by decide +kernel) (by decide +kernel)
theorem in_X14 : ∀ w ∈ wsX140, w ∈ lw_all := lw_in wsX140 [1257, 1258, 1259, 1253, 1255] (by decide +kernel) (by decide +kernel)
theorem in_X15 : ∀ w ∈ wsX150, w ∈ lw_all := lw_in wsX150 [1246] (by decide +kernel) (by decide +kernel)
theorem in_X16 : ∀ w ∈ wsX160, w ∈ lw_all := lw_in wsX160 [1287, 1288, 1289, 1285] (by decide +kernel) (by decide +kernel)
theorem in_X17 : ∀ w ∈ wsX170, w ∈ lw_all := lw_in wsX170 [1279, 1281] (by decide +kernel) (by decide +kernel)
theorem in_X18 : ∀ w ∈ wsX180, w ∈ lw_all := lw_in wsX180 [1312, 1313, 1314, 1306, 1308, 1310] (by decide +kernel) (by decide +kernel)
theorem in_X19 : ∀ w ∈ wsX190, w ∈ lw_all := lw_in wsX190 [1337, 1338, 1339, 1331, 1333, 1335] (by decide +kernel) (by decide +kernel)
theorem in_X20 : ∀ w ∈ wsX200, w ∈ lw_all := lw_in wsX200 [1372, 1373, 1374, 1362, 1364, 1366, 1368, 1370] (by decide +kernel) (by decide +kernel)
theorem in_X21 : ∀ w ∈ wsX210, w ∈ lw_all := lw_in wsX210 [1444, 1445, 1446, 1438, 1440, 1442] (by decide +kernel) (by decide +kernel)
theorem in_X22 : ∀ w ∈ wsX220, w ∈ lw_all := lw_in wsX220 [1495, 1497, 1499, 1501, 1503, 1505] (by decide +kernel) (by decide +kernel)
theorem in_X24 : ∀ w ∈ wsX240, w ∈ lw_all := lw_in wsX240 [1540] (by decide +kernel) (by decide +kernel)
theorem in_X25 : ∀ w ∈ wsX250, w ∈ lw_all := lw_in wsX250 [1550] (by decide +kernel) (by decide +kernel)
theorem in_X26 : ∀ w ∈ wsX260, w ∈ lw_all := lw_in wsX260 [1574, 1576, 1578, 1580] (by decide +kernel) (by decide +kernel)
theorem in_X27 : ∀ w ∈ wsX270, w ∈ lw_all := lw_in wsX270 [1590] (by decide +kernel) (by decide +kernel)
theorem in_X28 : ∀ w ∈ wsX280, w ∈ lw_all := lw_in wsX280 [1600] (by decide +kernel) (by decide +kernel)
theorem in_X29 : ∀ w ∈ wsX290, w ∈ lw_all := lw_in wsX290 [1614, 1616, 1618] (by decide +kernel) (by decide +kernel)
theorem in_X31 : ∀ w ∈ wsX310, w ∈ lw_all := lw_in wsX310 [1657, 1659] (by decide +kernel) (by decide +kernel)
theorem in_X32 : ∀ w ∈ wsX320, w ∈ lw_all := lw_in wsX320 [1672, 1674, 1676, 1678] (by decide +kernel) (by decide +kernel)
theorem in_X33 : ∀ w ∈ wsX330, w ∈ lw_all := lw_in wsX330 [1695, 1697] (by decide +kernel) (by decide +kernel)
