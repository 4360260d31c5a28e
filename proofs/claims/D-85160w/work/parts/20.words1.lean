/-! words of the tables: printed by gen_names.py -/
set_option maxRecDepth 100000
theorem q164 : (Jvm.Cond.initialized "java/lang/Throwable") ∈ lw_all := lw_g (lw_at lw_m1 2 rfl) rfl
theorem q228 : (Jvm.Cond.declares ({ cls := "java/lang/Throwable", name := "<init>", desc := "()V" } : Jvm.MethodName)) ∈ lw_tbl := lw_at lw_m1 66 rfl
theorem q229 : (Jvm.Cond.declares ({ cls := "java/lang/Throwable", name := "<init>", desc := "(Ljava/lang/String;)V" } : Jvm.MethodName)) ∈ lw_tbl := lw_at lw_m1 67 rfl
theorem q278 : (Jvm.Cond.fieldLink "java/lang/Throwable" (198 : Nat) "java/lang/Throwable" "backtrace" "Ljava/lang/Object;") ∈ lw_all := lw_g (lw_at lw_m1 116 rfl) rfl
theorem q243 : (Jvm.Cond.superclass "java/lang/Throwable" "java/lang/Object") ∈ lw_all := lw_g (lw_at lw_m1 81 rfl) rfl
theorem q244 : (Jvm.Cond.instanceMethod ({ cls := "java/lang/Throwable", name := "<init>", desc := "()V" } : Jvm.MethodName)) ∈ lw_all := lw_g (lw_at lw_m1 82 rfl) rfl
theorem q245 : (Jvm.Cond.code ({ cls := "java/lang/Throwable", name := "<init>", desc := "()V" } : Jvm.MethodName) prog_51_method_1_code (1 : Nat) (Option.none : Option Jvm.ClassFile.FieldType)) ∈ lw_all := lw_g (lw_at lw_m1 83 rfl) rfl
theorem q246 : (Jvm.Cond.methodLink "java/lang/Throwable" (1 : Nat) ({ cls := "java/lang/Object", name := "<init>", desc := "()V" } : Jvm.MethodName)) ∈ lw_all := lw_g (lw_at lw_m1 84 rfl) rfl
theorem q247 : (Jvm.Cond.fieldLink "java/lang/Throwable" (13 : Nat) "java/lang/Throwable" "UNASSIGNED_STACK" "[Ljava/lang/StackTraceElement;") ∈ lw_all := lw_g (lw_at lw_m1 85 rfl) rfl
theorem q249 : (Jvm.Cond.fieldLink "java/lang/Throwable" (20 : Nat) "java/lang/Throwable" "SUPPRESSED_SENTINEL" "Ljava/util/List;") ∈ lw_all := lw_g (lw_at lw_m1 87 rfl) rfl
theorem q251 : (Jvm.Cond.methodLink "java/lang/Throwable" (27 : Nat) ({ cls := "java/lang/Throwable", name := "fillInStackTrace", desc := "()Ljava/lang/Throwable;" } : Jvm.MethodName)) ∈ lw_all := lw_g (lw_at lw_m1 89 rfl) rfl
theorem q252 : (Jvm.Cond.instanceMethod ({ cls := "java/lang/Throwable", name := "fillInStackTrace", desc := "()Ljava/lang/Throwable;" } : Jvm.MethodName)) ∈ lw_all := lw_g (lw_at lw_m1 90 rfl) rfl
theorem q259 : (Jvm.Cond.methodLink "java/lang/Throwable" (202 : Nat) ({ cls := "java/lang/Throwable", name := "fillInStackTrace", desc := "(I)Ljava/lang/Throwable;" } : Jvm.MethodName)) ∈ lw_all := lw_g (lw_at lw_m1 97 rfl) rfl
theorem q261 : (Jvm.Cond.instanceMethod ({ cls := "java/lang/Throwable", name := "fillInStackTrace", desc := "(I)Ljava/lang/Throwable;" } : Jvm.MethodName)) ∈ lw_all := lw_g (lw_at lw_m1 99 rfl) rfl
theorem q263 : (Jvm.Cond.native ({ cls := "java/lang/Throwable", name := "fillInStackTrace", desc := "(I)Ljava/lang/Throwable;" } : Jvm.MethodName)) ∈ lw_all := lw_g (lw_at lw_m1 101 rfl) rfl
theorem q279 : (Jvm.Cond.fieldLink "java/lang/Throwable" (31 : Nat) "java/lang/Throwable" "detailMessage" "Ljava/lang/String;") ∈ lw_all := lw_g (lw_at lw_m1 117 rfl) rfl
theorem q280 : (Jvm.Cond.fieldLink "java/lang/Throwable" (7 : Nat) "java/lang/Throwable" "cause" "Ljava/lang/Throwable;") ∈ lw_all := lw_g (lw_at lw_m1 118 rfl) rfl
theorem q281 : (Jvm.Cond.fieldLink "java/lang/Throwable" (17 : Nat) "java/lang/Throwable" "stackTrace" "[Ljava/lang/StackTraceElement;") ∈ lw_all := lw_g (lw_at lw_m1 119 rfl) rfl
theorem q282 : (Jvm.Cond.fieldLink "java/lang/Throwable" (24 : Nat) "java/lang/Throwable" "suppressedExceptions" "Ljava/util/List;") ∈ lw_all := lw_g (lw_at lw_m1 120 rfl) rfl
theorem q1502 : (Jvm.Cond.instanceMethod ({ cls := "java/lang/Throwable", name := "<init>", desc := "(Ljava/lang/String;)V" } : Jvm.MethodName)) ∈ lw_all := lw_g (lw_at lw_m6 140 rfl) rfl
theorem q1503 : (Jvm.Cond.code ({ cls := "java/lang/Throwable", name := "<init>", desc := "(Ljava/lang/String;)V" } : Jvm.MethodName) prog_51_method_2_code (2 : Nat) (Option.none : Option Jvm.ClassFile.FieldType)) ∈ lw_all := lw_g (lw_at lw_m6 141 rfl) rfl
theorem q165 : (Jvm.Cond.initialized "java/lang/Exception") ∈ lw_all := lw_g (lw_at lw_m1 3 rfl) rfl
theorem q226 : (Jvm.Cond.declares ({ cls := "java/lang/Exception", name := "<init>", desc := "()V" } : Jvm.MethodName)) ∈ lw_tbl := lw_at lw_m1 64 rfl
theorem q227 : (Jvm.Cond.declares ({ cls := "java/lang/Exception", name := "<init>", desc := "(Ljava/lang/String;)V" } : Jvm.MethodName)) ∈ lw_tbl := lw_at lw_m1 65 rfl
theorem q271 : (Jvm.Cond.instanceMethod ({ cls := "java/lang/Exception", name := "<init>", desc := "()V" } : Jvm.MethodName)) ∈ lw_all := lw_g (lw_at lw_m1 109 rfl) rfl
theorem q272 : (Jvm.Cond.code ({ cls := "java/lang/Exception", name := "<init>", desc := "()V" } : Jvm.MethodName) prog_42_method_1_code (1 : Nat) (Option.none : Option Jvm.ClassFile.FieldType)) ∈ lw_all := lw_g (lw_at lw_m1 110 rfl) rfl
theorem q273 : (Jvm.Cond.methodLink "java/lang/Exception" (1 : Nat) ({ cls := "java/lang/Throwable", name := "<init>", desc := "()V" } : Jvm.MethodName)) ∈ lw_all := lw_g (lw_at lw_m1 111 rfl) rfl
theorem q1499 : (Jvm.Cond.instanceMethod ({ cls := "java/lang/Exception", name := "<init>", desc := "(Ljava/lang/String;)V" } : Jvm.MethodName)) ∈ lw_all := lw_g (lw_at lw_m6 137 rfl) rfl
theorem q1500 : (Jvm.Cond.code ({ cls := "java/lang/Exception", name := "<init>", desc := "(Ljava/lang/String;)V" } : Jvm.MethodName) prog_42_method_2_code (2 : Nat) (Option.none : Option Jvm.ClassFile.FieldType)) ∈ lw_all := lw_g (lw_at lw_m6 138 rfl) rfl
theorem q1501 : (Jvm.Cond.methodLink "java/lang/Exception" (7 : Nat) ({ cls := "java/lang/Throwable", name := "<init>", desc := "(Ljava/lang/String;)V" } : Jvm.MethodName)) ∈ lw_all := lw_g (lw_at lw_m6 139 rfl) rfl
theorem q208 : (Jvm.Cond.initialized "java/lang/ArrayIndexOutOfBoundsException") ∈ lw_all := lw_g (lw_at lw_m1 46 rfl) rfl
theorem q256 : (Jvm.Cond.selects "java/lang/ArrayIndexOutOfBoundsException" ({ cls := "java/lang/Throwable", name := "fillInStackTrace", desc := "()Ljava/lang/Throwable;" } : Jvm.MethodName) ({ cls := "java/lang/Throwable", name := "fillInStackTrace", desc := "()Ljava/lang/Throwable;" } : Jvm.MethodName)) ∈ lw_all := lw_g (lw_at lw_m1 94 rfl) rfl
theorem q1490 : (Jvm.Cond.instanceMethod ({ cls := "java/lang/ArrayIndexOutOfBoundsException", name := "<init>", desc := "(Ljava/lang/String;)V" } : Jvm.MethodName)) ∈ lw_all := lw_g (lw_at lw_m6 128 rfl) rfl
theorem q1491 : (Jvm.Cond.code ({ cls := "java/lang/ArrayIndexOutOfBoundsException", name := "<init>", desc := "(Ljava/lang/String;)V" } : Jvm.MethodName) prog_39_method_2_code (2 : Nat) (Option.none : Option Jvm.ClassFile.FieldType)) ∈ lw_all := lw_g (lw_at lw_m6 129 rfl) rfl
theorem q1492 : (Jvm.Cond.methodLink "java/lang/ArrayIndexOutOfBoundsException" (7 : Nat) ({ cls := "java/lang/IndexOutOfBoundsException", name := "<init>", desc := "(Ljava/lang/String;)V" } : Jvm.MethodName)) ∈ lw_all := lw_g (lw_at lw_m6 130 rfl) rfl
theorem q1510 : (Jvm.Cond.superclass "java/lang/ArrayIndexOutOfBoundsException" "java/lang/IndexOutOfBoundsException") ∈ lw_all := lw_g (lw_at lw_m6 148 rfl) rfl
theorem q1511 : (Jvm.Cond.castable "java/lang/ArrayIndexOutOfBoundsException" "java/lang/ArrayIndexOutOfBoundsException") ∈ lw_tbl := lw_at lw_m6 149 rfl
theorem q1514 : (Jvm.Cond.selects "java/lang/ArrayIndexOutOfBoundsException" ({ cls := "java/lang/Throwable", name := "fillInStackTrace", desc := "(I)Ljava/lang/Throwable;" } : Jvm.MethodName) ({ cls := "java/lang/Throwable", name := "fillInStackTrace", desc := "(I)Ljava/lang/Throwable;" } : Jvm.MethodName)) ∈ lw_all := lw_g (lw_at lw_m6 152 rfl) rfl
theorem q210 : (Jvm.Cond.initialized "java/lang/ArithmeticException") ∈ lw_all := lw_g (lw_at lw_m1 48 rfl) rfl
theorem q255 : (Jvm.Cond.selects "java/lang/ArithmeticException" ({ cls := "java/lang/Throwable", name := "fillInStackTrace", desc := "()Ljava/lang/Throwable;" } : Jvm.MethodName) ({ cls := "java/lang/Throwable", name := "fillInStackTrace", desc := "()Ljava/lang/Throwable;" } : Jvm.MethodName)) ∈ lw_all := lw_g (lw_at lw_m1 93 rfl) rfl
theorem q1628 : (Jvm.Cond.instanceMethod ({ cls := "java/lang/ArithmeticException", name := "<init>", desc := "(Ljava/lang/String;)V" } : Jvm.MethodName)) ∈ lw_all := lw_g (lw_at lw_m7 26 rfl) rfl
theorem q1629 : (Jvm.Cond.code ({ cls := "java/lang/ArithmeticException", name := "<init>", desc := "(Ljava/lang/String;)V" } : Jvm.MethodName) prog_38_method_2_code (2 : Nat) (Option.none : Option Jvm.ClassFile.FieldType)) ∈ lw_all := lw_g (lw_at lw_m7 27 rfl) rfl
theorem q1630 : (Jvm.Cond.methodLink "java/lang/ArithmeticException" (7 : Nat) ({ cls := "java/lang/RuntimeException", name := "<init>", desc := "(Ljava/lang/String;)V" } : Jvm.MethodName)) ∈ lw_all := lw_g (lw_at lw_m7 28 rfl) rfl
theorem q1637 : (Jvm.Cond.superclass "java/lang/ArithmeticException" "java/lang/RuntimeException") ∈ lw_all := lw_g (lw_at lw_m7 35 rfl) rfl
theorem q1638 : (Jvm.Cond.castable "java/lang/ArithmeticException" "java/lang/ArithmeticException") ∈ lw_tbl := lw_at lw_m7 36 rfl
theorem q1639 : (Jvm.Cond.selects "java/lang/ArithmeticException" ({ cls := "java/lang/Throwable", name := "fillInStackTrace", desc := "(I)Ljava/lang/Throwable;" } : Jvm.MethodName) ({ cls := "java/lang/Throwable", name := "fillInStackTrace", desc := "(I)Ljava/lang/Throwable;" } : Jvm.MethodName)) ∈ lw_all := lw_g (lw_at lw_m7 37 rfl) rfl
theorem q212 : (Jvm.Cond.initialized "java/lang/NegativeArraySizeException") ∈ lw_all := lw_g (lw_at lw_m1 50 rfl) rfl
theorem q257 : (Jvm.Cond.selects "java/lang/NegativeArraySizeException" ({ cls := "java/lang/Throwable", name := "fillInStackTrace", desc := "()Ljava/lang/Throwable;" } : Jvm.MethodName) ({ cls := "java/lang/Throwable", name := "fillInStackTrace", desc := "()Ljava/lang/Throwable;" } : Jvm.MethodName)) ∈ lw_all := lw_g (lw_at lw_m1 95 rfl) rfl
theorem q1706 : (Jvm.Cond.instanceMethod ({ cls := "java/lang/NegativeArraySizeException", name := "<init>", desc := "(Ljava/lang/String;)V" } : Jvm.MethodName)) ∈ lw_all := lw_g (lw_at lw_m7 104 rfl) rfl
theorem q1707 : (Jvm.Cond.code ({ cls := "java/lang/NegativeArraySizeException", name := "<init>", desc := "(Ljava/lang/String;)V" } : Jvm.MethodName) prog_45_method_2_code (2 : Nat) (Option.none : Option Jvm.ClassFile.FieldType)) ∈ lw_all := lw_g (lw_at lw_m7 105 rfl) rfl
theorem q1708 : (Jvm.Cond.methodLink "java/lang/NegativeArraySizeException" (7 : Nat) ({ cls := "java/lang/RuntimeException", name := "<init>", desc := "(Ljava/lang/String;)V" } : Jvm.MethodName)) ∈ lw_all := lw_g (lw_at lw_m7 106 rfl) rfl
theorem q1715 : (Jvm.Cond.superclass "java/lang/NegativeArraySizeException" "java/lang/RuntimeException") ∈ lw_all := lw_g (lw_at lw_m7 113 rfl) rfl
theorem q1716 : (Jvm.Cond.castable "java/lang/NegativeArraySizeException" "java/lang/NegativeArraySizeException") ∈ lw_tbl := lw_at lw_m7 114 rfl
theorem q1717 : (Jvm.Cond.selects "java/lang/NegativeArraySizeException" ({ cls := "java/lang/Throwable", name := "fillInStackTrace", desc := "(I)Ljava/lang/Throwable;" } : Jvm.MethodName) ({ cls := "java/lang/Throwable", name := "fillInStackTrace", desc := "(I)Ljava/lang/Throwable;" } : Jvm.MethodName)) ∈ lw_all := lw_g (lw_at lw_m7 115 rfl) rfl
theorem q219 : (Jvm.Cond.instanceMethod ({ cls := "java/lang/Object", name := "<init>", desc := "()V" } : Jvm.MethodName)) ∈ lw_all := lw_g (lw_at lw_m1 57 rfl) rfl
theorem q220 : (Jvm.Cond.code ({ cls := "java/lang/Object", name := "<init>", desc := "()V" } : Jvm.MethodName) object_method_1_code (1 : Nat) (Option.none : Option Jvm.ClassFile.FieldType)) ∈ lw_all := lw_g (lw_at lw_m1 58 rfl) rfl
theorem q1794 : (Jvm.Cond.native ({ cls := "java/lang/Object", name := "clone", desc := "()Ljava/lang/Object;" } : Jvm.MethodName)) ∈ lw_all := lw_g (lw_at lw_m7 192 rfl) rfl
theorem q1795 : (Jvm.Cond.instanceMethod ({ cls := "java/lang/Object", name := "clone", desc := "()Ljava/lang/Object;" } : Jvm.MethodName)) ∈ lw_all := lw_g (lw_at lw_m7 193 rfl) rfl
theorem q166 : (Jvm.Cond.initialized "java/lang/RuntimeException") ∈ lw_all := lw_g (lw_at lw_m1 4 rfl) rfl
theorem q224 : (Jvm.Cond.declares ({ cls := "java/lang/RuntimeException", name := "<init>", desc := "()V" } : Jvm.MethodName)) ∈ lw_tbl := lw_at lw_m1 62 rfl
theorem q225 : (Jvm.Cond.declares ({ cls := "java/lang/RuntimeException", name := "<init>", desc := "(Ljava/lang/String;)V" } : Jvm.MethodName)) ∈ lw_tbl := lw_at lw_m1 63 rfl
theorem q268 : (Jvm.Cond.instanceMethod ({ cls := "java/lang/RuntimeException", name := "<init>", desc := "()V" } : Jvm.MethodName)) ∈ lw_all := lw_g (lw_at lw_m1 106 rfl) rfl
theorem q269 : (Jvm.Cond.code ({ cls := "java/lang/RuntimeException", name := "<init>", desc := "()V" } : Jvm.MethodName) prog_46_method_1_code (1 : Nat) (Option.none : Option Jvm.ClassFile.FieldType)) ∈ lw_all := lw_g (lw_at lw_m1 107 rfl) rfl
theorem q270 : (Jvm.Cond.methodLink "java/lang/RuntimeException" (1 : Nat) ({ cls := "java/lang/Exception", name := "<init>", desc := "()V" } : Jvm.MethodName)) ∈ lw_all := lw_g (lw_at lw_m1 108 rfl) rfl
theorem q1496 : (Jvm.Cond.instanceMethod ({ cls := "java/lang/RuntimeException", name := "<init>", desc := "(Ljava/lang/String;)V" } : Jvm.MethodName)) ∈ lw_all := lw_g (lw_at lw_m6 134 rfl) rfl
theorem q1497 : (Jvm.Cond.code ({ cls := "java/lang/RuntimeException", name := "<init>", desc := "(Ljava/lang/String;)V" } : Jvm.MethodName) prog_46_method_2_code (2 : Nat) (Option.none : Option Jvm.ClassFile.FieldType)) ∈ lw_all := lw_g (lw_at lw_m6 135 rfl) rfl
theorem q1498 : (Jvm.Cond.methodLink "java/lang/RuntimeException" (7 : Nat) ({ cls := "java/lang/Exception", name := "<init>", desc := "(Ljava/lang/String;)V" } : Jvm.MethodName)) ∈ lw_all := lw_g (lw_at lw_m6 136 rfl) rfl
theorem q179 : (Jvm.Cond.initialized "java/lang/String") ∈ lw_all := lw_g (lw_at lw_m1 17 rfl) rfl
theorem q641 : (Jvm.Cond.instanceMethod ({ cls := "java/lang/String", name := "indexOf", desc := "(I)I" } : Jvm.MethodName)) ∈ lw_all := lw_g (lw_at lw_m2 239 rfl) rfl
theorem q642 : (Jvm.Cond.selects "java/lang/String" ({ cls := "java/lang/String", name := "indexOf", desc := "(I)I" } : Jvm.MethodName) ({ cls := "java/lang/String", name := "indexOf", desc := "(I)I" } : Jvm.MethodName)) ∈ lw_all := lw_g (lw_at lw_m3 0 rfl) rfl
theorem q643 : (Jvm.Cond.code ({ cls := "java/lang/String", name := "indexOf", desc := "(I)I" } : Jvm.MethodName) prog_47_method_79_code (2 : Nat) (Option.some Jvm.ClassFile.FieldType.int)) ∈ lw_all := lw_g (lw_at lw_m3 1 rfl) rfl
theorem q644 : (Jvm.Cond.methodLink "java/lang/String" (633 : Nat) ({ cls := "java/lang/String", name := "indexOf", desc := "(II)I" } : Jvm.MethodName)) ∈ lw_all := lw_g (lw_at lw_m3 2 rfl) rfl
theorem q645 : (Jvm.Cond.instanceMethod ({ cls := "java/lang/String", name := "indexOf", desc := "(II)I" } : Jvm.MethodName)) ∈ lw_all := lw_g (lw_at lw_m3 3 rfl) rfl
theorem q646 : (Jvm.Cond.selects "java/lang/String" ({ cls := "java/lang/String", name := "indexOf", desc := "(II)I" } : Jvm.MethodName) ({ cls := "java/lang/String", name := "indexOf", desc := "(II)I" } : Jvm.MethodName)) ∈ lw_all := lw_g (lw_at lw_m3 4 rfl) rfl
theorem q647 : (Jvm.Cond.code ({ cls := "java/lang/String", name := "indexOf", desc := "(II)I" } : Jvm.MethodName) prog_47_method_80_code (3 : Nat) (Option.some Jvm.ClassFile.FieldType.int)) ∈ lw_all := lw_g (lw_at lw_m3 5 rfl) rfl
theorem q648 : (Jvm.Cond.methodLink "java/lang/String" (492 : Nat) ({ cls := "java/lang/String", name := "isLatin1", desc := "()Z" } : Jvm.MethodName)) ∈ lw_all := lw_g (lw_at lw_m3 6 rfl) rfl
theorem q649 : (Jvm.Cond.instanceMethod ({ cls := "java/lang/String", name := "isLatin1", desc := "()Z" } : Jvm.MethodName)) ∈ lw_all := lw_g (lw_at lw_m3 7 rfl) rfl
theorem q650 : (Jvm.Cond.selects "java/lang/String" ({ cls := "java/lang/String", name := "isLatin1", desc := "()Z" } : Jvm.MethodName) ({ cls := "java/lang/String", name := "isLatin1", desc := "()Z" } : Jvm.MethodName)) ∈ lw_all := lw_g (lw_at lw_m3 8 rfl) rfl
theorem q651 : (Jvm.Cond.code ({ cls := "java/lang/String", name := "isLatin1", desc := "()Z" } : Jvm.MethodName) prog_47_method_154_code (1 : Nat) (Option.some Jvm.ClassFile.FieldType.boolean)) ∈ lw_all := lw_g (lw_at lw_m3 9 rfl) rfl
theorem q652 : (Jvm.Cond.fieldLink "java/lang/String" (38 : Nat) "java/lang/String" "COMPACT_STRINGS" "Z") ∈ lw_all := lw_g (lw_at lw_m3 10 rfl) rfl
theorem q654 : (Jvm.Cond.methodLink "java/lang/String" (505 : Nat) ({ cls := "java/lang/String", name := "length", desc := "()I" } : Jvm.MethodName)) ∈ lw_all := lw_g (lw_at lw_m3 12 rfl) rfl
theorem q655 : (Jvm.Cond.instanceMethod ({ cls := "java/lang/String", name := "length", desc := "()I" } : Jvm.MethodName)) ∈ lw_all := lw_g (lw_at lw_m3 13 rfl) rfl
theorem q656 : (Jvm.Cond.selects "java/lang/String" ({ cls := "java/lang/String", name := "length", desc := "()I" } : Jvm.MethodName) ({ cls := "java/lang/String", name := "length", desc := "()I" } : Jvm.MethodName)) ∈ lw_all := lw_g (lw_at lw_m3 14 rfl) rfl
theorem q657 : (Jvm.Cond.code ({ cls := "java/lang/String", name := "length", desc := "()I" } : Jvm.MethodName) prog_47_method_54_code (1 : Nat) (Option.some Jvm.ClassFile.FieldType.int)) ∈ lw_all := lw_g (lw_at lw_m3 15 rfl) rfl
theorem q658 : (Jvm.Cond.methodLink "java/lang/String" (335 : Nat) ({ cls := "java/lang/String", name := "coder", desc := "()B" } : Jvm.MethodName)) ∈ lw_all := lw_g (lw_at lw_m3 16 rfl) rfl
theorem q659 : (Jvm.Cond.instanceMethod ({ cls := "java/lang/String", name := "coder", desc := "()B" } : Jvm.MethodName)) ∈ lw_all := lw_g (lw_at lw_m3 17 rfl) rfl
theorem q660 : (Jvm.Cond.selects "java/lang/String" ({ cls := "java/lang/String", name := "coder", desc := "()B" } : Jvm.MethodName) ({ cls := "java/lang/String", name := "coder", desc := "()B" } : Jvm.MethodName)) ∈ lw_all := lw_g (lw_at lw_m3 18 rfl) rfl
theorem q661 : (Jvm.Cond.code ({ cls := "java/lang/String", name := "coder", desc := "()B" } : Jvm.MethodName) prog_47_method_152_code (1 : Nat) (Option.some Jvm.ClassFile.FieldType.byte)) ∈ lw_all := lw_g (lw_at lw_m3 19 rfl) rfl
theorem q662 : (Jvm.Cond.methodLink "java/lang/String" (637 : Nat) ({ cls := "java/lang/StringLatin1", name := "indexOf", desc := "([BIII)I" } : Jvm.MethodName)) ∈ lw_all := lw_g (lw_at lw_m3 20 rfl) rfl
theorem q677 : (Jvm.Cond.methodLink "java/lang/String" (640 : Nat) ({ cls := "java/lang/StringUTF16", name := "indexOf", desc := "([BIII)I" } : Jvm.MethodName)) ∈ lw_all := lw_g (lw_at lw_m3 35 rfl) rfl
theorem q693 : (Jvm.Cond.static ({ cls := "java/lang/String", name := "checkBoundsBeginEnd", desc := "(III)V" } : Jvm.MethodName)) ∈ lw_all := lw_g (lw_at lw_m3 51 rfl) rfl
theorem q694 : (Jvm.Cond.code ({ cls := "java/lang/String", name := "checkBoundsBeginEnd", desc := "(III)V" } : Jvm.MethodName) prog_47_method_158_code (3 : Nat) (Option.none : Option Jvm.ClassFile.FieldType)) ∈ lw_all := lw_g (lw_at lw_m3 52 rfl) rfl
theorem q695 : (Jvm.Cond.fieldLink "java/lang/String" (1053 : Nat) "jdk/internal/util/Preconditions" "SIOOBE_FORMATTER" "Ljava/util/function/BiFunction;") ∈ lw_all := lw_g (lw_at lw_m3 53 rfl) rfl
theorem q697 : (Jvm.Cond.methodLink "java/lang/String" (1062 : Nat) ({ cls := "jdk/internal/util/Preconditions", name := "checkFromToIndex", desc := "(IIILjava/util/function/BiFunction;)I" } : Jvm.MethodName)) ∈ lw_all := lw_g (lw_at lw_m3 55 rfl) rfl
theorem q733 : (Jvm.Cond.instanceMethod ({ cls := "java/lang/String", name := "charAt", desc := "(I)C" } : Jvm.MethodName)) ∈ lw_all := lw_g (lw_at lw_m3 91 rfl) rfl
theorem q734 : (Jvm.Cond.selects "java/lang/String" ({ cls := "java/lang/String", name := "charAt", desc := "(I)C" } : Jvm.MethodName) ({ cls := "java/lang/String", name := "charAt", desc := "(I)C" } : Jvm.MethodName)) ∈ lw_all := lw_g (lw_at lw_m3 92 rfl) rfl
theorem q735 : (Jvm.Cond.code ({ cls := "java/lang/String", name := "charAt", desc := "(I)C" } : Jvm.MethodName) prog_47_method_56_code (2 : Nat) (Option.some Jvm.ClassFile.FieldType.char)) ∈ lw_all := lw_g (lw_at lw_m3 93 rfl) rfl
theorem q736 : (Jvm.Cond.methodLink "java/lang/String" (495 : Nat) ({ cls := "java/lang/StringLatin1", name := "charAt", desc := "([BI)C" } : Jvm.MethodName)) ∈ lw_all := lw_g (lw_at lw_m3 94 rfl) rfl
theorem q740 : (Jvm.Cond.static ({ cls := "java/lang/String", name := "checkIndex", desc := "(II)V" } : Jvm.MethodName)) ∈ lw_all := lw_g (lw_at lw_m3 98 rfl) rfl
theorem q741 : (Jvm.Cond.code ({ cls := "java/lang/String", name := "checkIndex", desc := "(II)V" } : Jvm.MethodName) prog_47_method_155_code (2 : Nat) (Option.none : Option Jvm.ClassFile.FieldType)) ∈ lw_all := lw_g (lw_at lw_m3 99 rfl) rfl
theorem q742 : (Jvm.Cond.methodLink "java/lang/String" (1059 : Nat) ({ cls := "jdk/internal/util/Preconditions", name := "checkIndex", desc := "(IILjava/util/function/BiFunction;)I" } : Jvm.MethodName)) ∈ lw_all := lw_g (lw_at lw_m3 100 rfl) rfl
theorem q745 : (Jvm.Cond.methodLink "java/lang/String" (498 : Nat) ({ cls := "java/lang/StringUTF16", name := "charAt", desc := "([BI)C" } : Jvm.MethodName)) ∈ lw_all := lw_g (lw_at lw_m3 103 rfl) rfl
theorem q3052 : (Jvm.Cond.fieldLink "java/lang/String" (15 : Nat) "java/lang/String" "coder" "B") ∈ lw_all := lw_g (lw_at lw_m13 10 rfl) rfl
theorem q3053 : (Jvm.Cond.fieldLink "java/lang/String" (9 : Nat) "java/lang/String" "value" "[B") ∈ lw_all := lw_g (lw_at lw_m13 11 rfl) rfl
theorem q180 : (Jvm.Cond.initialized "java/lang/StringLatin1") ∈ lw_all := lw_g (lw_at lw_m1 18 rfl) rfl
theorem q663 : (Jvm.Cond.static ({ cls := "java/lang/StringLatin1", name := "indexOf", desc := "([BIII)I" } : Jvm.MethodName)) ∈ lw_all := lw_g (lw_at lw_m3 21 rfl) rfl
theorem q664 : (Jvm.Cond.code ({ cls := "java/lang/StringLatin1", name := "indexOf", desc := "([BIII)I" } : Jvm.MethodName) prog_48_method_22_code (4 : Nat) (Option.some Jvm.ClassFile.FieldType.int)) ∈ lw_all := lw_g (lw_at lw_m3 22 rfl) rfl
theorem q665 : (Jvm.Cond.methodLink "java/lang/StringLatin1" (88 : Nat) ({ cls := "java/lang/StringLatin1", name := "canEncode", desc := "(I)Z" } : Jvm.MethodName)) ∈ lw_all := lw_g (lw_at lw_m3 23 rfl) rfl
theorem q666 : (Jvm.Cond.static ({ cls := "java/lang/StringLatin1", name := "canEncode", desc := "(I)Z" } : Jvm.MethodName)) ∈ lw_all := lw_g (lw_at lw_m3 24 rfl) rfl
theorem q667 : (Jvm.Cond.code ({ cls := "java/lang/StringLatin1", name := "canEncode", desc := "(I)Z" } : Jvm.MethodName) prog_48_method_4_code (1 : Nat) (Option.some Jvm.ClassFile.FieldType.boolean)) ∈ lw_all := lw_g (lw_at lw_m3 25 rfl) rfl
theorem q668 : (Jvm.Cond.methodLink "java/lang/StringLatin1" (92 : Nat) ({ cls := "java/lang/Math", name := "max", desc := "(II)I" } : Jvm.MethodName)) ∈ lw_all := lw_g (lw_at lw_m3 26 rfl) rfl
theorem q671 : (Jvm.Cond.methodLink "java/lang/StringLatin1" (38 : Nat) ({ cls := "java/lang/Math", name := "min", desc := "(II)I" } : Jvm.MethodName)) ∈ lw_all := lw_g (lw_at lw_m3 29 rfl) rfl
theorem q674 : (Jvm.Cond.methodLink "java/lang/StringLatin1" (95 : Nat) ({ cls := "java/lang/StringLatin1", name := "indexOfChar", desc := "([BIII)I" } : Jvm.MethodName)) ∈ lw_all := lw_g (lw_at lw_m3 32 rfl) rfl
theorem q675 : (Jvm.Cond.static ({ cls := "java/lang/StringLatin1", name := "indexOfChar", desc := "([BIII)I" } : Jvm.MethodName)) ∈ lw_all := lw_g (lw_at lw_m3 33 rfl) rfl
theorem q676 : (Jvm.Cond.code ({ cls := "java/lang/StringLatin1", name := "indexOfChar", desc := "([BIII)I" } : Jvm.MethodName) prog_48_method_23_code (6 : Nat) (Option.some Jvm.ClassFile.FieldType.int)) ∈ lw_all := lw_g (lw_at lw_m3 34 rfl) rfl
theorem q737 : (Jvm.Cond.static ({ cls := "java/lang/StringLatin1", name := "charAt", desc := "([BI)C" } : Jvm.MethodName)) ∈ lw_all := lw_g (lw_at lw_m3 95 rfl) rfl
theorem q738 : (Jvm.Cond.code ({ cls := "java/lang/StringLatin1", name := "charAt", desc := "([BI)C" } : Jvm.MethodName) prog_48_method_2_code (2 : Nat) (Option.some Jvm.ClassFile.FieldType.char)) ∈ lw_all := lw_g (lw_at lw_m3 96 rfl) rfl
theorem q739 : (Jvm.Cond.methodLink "java/lang/StringLatin1" (9 : Nat) ({ cls := "java/lang/String", name := "checkIndex", desc := "(II)V" } : Jvm.MethodName)) ∈ lw_all := lw_g (lw_at lw_m3 97 rfl) rfl
theorem q181 : (Jvm.Cond.initialized "java/lang/Math") ∈ lw_all := lw_g (lw_at lw_m1 19 rfl) rfl
theorem q669 : (Jvm.Cond.static ({ cls := "java/lang/Math", name := "max", desc := "(II)I" } : Jvm.MethodName)) ∈ lw_all := lw_g (lw_at lw_m3 27 rfl) rfl
theorem q670 : (Jvm.Cond.code ({ cls := "java/lang/Math", name := "max", desc := "(II)I" } : Jvm.MethodName) prog_44_method_65_code (2 : Nat) (Option.some Jvm.ClassFile.FieldType.int)) ∈ lw_all := lw_g (lw_at lw_m3 28 rfl) rfl
theorem q672 : (Jvm.Cond.static ({ cls := "java/lang/Math", name := "min", desc := "(II)I" } : Jvm.MethodName)) ∈ lw_all := lw_g (lw_at lw_m3 30 rfl) rfl
theorem q673 : (Jvm.Cond.code ({ cls := "java/lang/Math", name := "min", desc := "(II)I" } : Jvm.MethodName) prog_44_method_69_code (2 : Nat) (Option.some Jvm.ClassFile.FieldType.int)) ∈ lw_all := lw_g (lw_at lw_m3 31 rfl) rfl
theorem q1873 : (Jvm.Cond.static ({ cls := "java/lang/Math", name := "max", desc := "(JJ)J" } : Jvm.MethodName)) ∈ lw_all := lw_g (lw_at lw_m8 31 rfl) rfl
theorem q1874 : (Jvm.Cond.code ({ cls := "java/lang/Math", name := "max", desc := "(JJ)J" } : Jvm.MethodName) prog_44_method_66_code (4 : Nat) (Option.some Jvm.ClassFile.FieldType.long)) ∈ lw_all := lw_g (lw_at lw_m8 32 rfl) rfl
theorem q182 : (Jvm.Cond.initialized "java/lang/StringUTF16") ∈ lw_all := lw_g (lw_at lw_m1 20 rfl) rfl
theorem q678 : (Jvm.Cond.static ({ cls := "java/lang/StringUTF16", name := "indexOf", desc := "([BIII)I" } : Jvm.MethodName)) ∈ lw_all := lw_g (lw_at lw_m3 36 rfl) rfl
theorem q679 : (Jvm.Cond.code ({ cls := "java/lang/StringUTF16", name := "indexOf", desc := "([BIII)I" } : Jvm.MethodName) prog_49_method_40_code (4 : Nat) (Option.some Jvm.ClassFile.FieldType.int)) ∈ lw_all := lw_g (lw_at lw_m3 37 rfl) rfl
theorem q680 : (Jvm.Cond.methodLink "java/lang/StringUTF16" (224 : Nat) ({ cls := "java/lang/Math", name := "max", desc := "(II)I" } : Jvm.MethodName)) ∈ lw_all := lw_g (lw_at lw_m3 38 rfl) rfl
theorem q681 : (Jvm.Cond.methodLink "java/lang/StringUTF16" (183 : Nat) ({ cls := "java/lang/Math", name := "min", desc := "(II)I" } : Jvm.MethodName)) ∈ lw_all := lw_g (lw_at lw_m3 39 rfl) rfl
theorem q682 : (Jvm.Cond.constant "java/lang/StringUTF16" (227 : Nat) (65536 : Int32)) ∈ lw_all := lw_g (lw_at lw_m3 40 rfl) rfl
theorem q683 : (Jvm.Cond.methodLink "java/lang/StringUTF16" (228 : Nat) ({ cls := "java/lang/StringUTF16", name := "indexOfChar", desc := "([BIII)I" } : Jvm.MethodName)) ∈ lw_all := lw_g (lw_at lw_m3 41 rfl) rfl
theorem q684 : (Jvm.Cond.static ({ cls := "java/lang/StringUTF16", name := "indexOfChar", desc := "([BIII)I" } : Jvm.MethodName)) ∈ lw_all := lw_g (lw_at lw_m3 42 rfl) rfl
theorem q685 : (Jvm.Cond.code ({ cls := "java/lang/StringUTF16", name := "indexOfChar", desc := "([BIII)I" } : Jvm.MethodName) prog_49_method_47_code (4 : Nat) (Option.some Jvm.ClassFile.FieldType.int)) ∈ lw_all := lw_g (lw_at lw_m3 43 rfl) rfl
theorem q686 : (Jvm.Cond.methodLink "java/lang/StringUTF16" (96 : Nat) ({ cls := "java/lang/StringUTF16", name := "checkBoundsBeginEnd", desc := "(II[B)V" } : Jvm.MethodName)) ∈ lw_all := lw_g (lw_at lw_m3 44 rfl) rfl
theorem q687 : (Jvm.Cond.static ({ cls := "java/lang/StringUTF16", name := "checkBoundsBeginEnd", desc := "(II[B)V" } : Jvm.MethodName)) ∈ lw_all := lw_g (lw_at lw_m3 45 rfl) rfl
theorem q688 : (Jvm.Cond.code ({ cls := "java/lang/StringUTF16", name := "checkBoundsBeginEnd", desc := "(II[B)V" } : Jvm.MethodName) prog_49_method_93_code (3 : Nat) (Option.none : Option Jvm.ClassFile.FieldType)) ∈ lw_all := lw_g (lw_at lw_m3 46 rfl) rfl
theorem q689 : (Jvm.Cond.methodLink "java/lang/StringUTF16" (48 : Nat) ({ cls := "java/lang/StringUTF16", name := "length", desc := "([B)I" } : Jvm.MethodName)) ∈ lw_all := lw_g (lw_at lw_m3 47 rfl) rfl
theorem q690 : (Jvm.Cond.static ({ cls := "java/lang/StringUTF16", name := "length", desc := "([B)I" } : Jvm.MethodName)) ∈ lw_all := lw_g (lw_at lw_m3 48 rfl) rfl
theorem q691 : (Jvm.Cond.code ({ cls := "java/lang/StringUTF16", name := "length", desc := "([B)I" } : Jvm.MethodName) prog_49_method_6_code (1 : Nat) (Option.some Jvm.ClassFile.FieldType.int)) ∈ lw_all := lw_g (lw_at lw_m3 49 rfl) rfl
theorem q692 : (Jvm.Cond.methodLink "java/lang/StringUTF16" (241 : Nat) ({ cls := "java/lang/String", name := "checkBoundsBeginEnd", desc := "(III)V" } : Jvm.MethodName)) ∈ lw_all := lw_g (lw_at lw_m3 50 rfl) rfl
theorem q700 : (Jvm.Cond.methodLink "java/lang/StringUTF16" (244 : Nat) ({ cls := "java/lang/StringUTF16", name := "indexOfCharUnsafe", desc := "([BIII)I" } : Jvm.MethodName)) ∈ lw_all := lw_g (lw_at lw_m3 58 rfl) rfl
theorem q701 : (Jvm.Cond.static ({ cls := "java/lang/StringUTF16", name := "indexOfCharUnsafe", desc := "([BIII)I" } : Jvm.MethodName)) ∈ lw_all := lw_g (lw_at lw_m3 59 rfl) rfl
theorem q702 : (Jvm.Cond.code ({ cls := "java/lang/StringUTF16", name := "indexOfCharUnsafe", desc := "([BIII)I" } : Jvm.MethodName) prog_49_method_48_code (5 : Nat) (Option.some Jvm.ClassFile.FieldType.int)) ∈ lw_all := lw_g (lw_at lw_m3 60 rfl) rfl
theorem q703 : (Jvm.Cond.methodLink "java/lang/StringUTF16" (71 : Nat) ({ cls := "java/lang/StringUTF16", name := "getChar", desc := "([BI)C" } : Jvm.MethodName)) ∈ lw_all := lw_g (lw_at lw_m3 61 rfl) rfl
theorem q704 : (Jvm.Cond.static ({ cls := "java/lang/StringUTF16", name := "getChar", desc := "([BI)C" } : Jvm.MethodName)) ∈ lw_all := lw_g (lw_at lw_m3 62 rfl) rfl
theorem q705 : (Jvm.Cond.code ({ cls := "java/lang/StringUTF16", name := "getChar", desc := "([BI)C" } : Jvm.MethodName) prog_49_method_5_code (2 : Nat) (Option.some Jvm.ClassFile.FieldType.char)) ∈ lw_all := lw_g (lw_at lw_m3 63 rfl) rfl
theorem q706 : (Jvm.Cond.fieldLink "java/lang/StringUTF16" (44 : Nat) "java/lang/StringUTF16" "$assertionsDisabled" "Z") ∈ lw_all := lw_g (lw_at lw_m3 64 rfl) rfl
theorem q708 : (Jvm.Cond.fieldLink "java/lang/StringUTF16" (59 : Nat) "java/lang/StringUTF16" "HI_BYTE_SHIFT" "I") ∈ lw_all := lw_g (lw_at lw_m3 66 rfl) rfl
theorem q710 : (Jvm.Cond.fieldLink "java/lang/StringUTF16" (63 : Nat) "java/lang/StringUTF16" "LO_BYTE_SHIFT" "I") ∈ lw_all := lw_g (lw_at lw_m3 68 rfl) rfl
theorem q712 : (Jvm.Cond.methodLink "java/lang/StringUTF16" (232 : Nat) ({ cls := "java/lang/StringUTF16", name := "indexOfSupplementary", desc := "([BIII)I" } : Jvm.MethodName)) ∈ lw_all := lw_g (lw_at lw_m3 70 rfl) rfl
theorem q713 : (Jvm.Cond.static ({ cls := "java/lang/StringUTF16", name := "indexOfSupplementary", desc := "([BIII)I" } : Jvm.MethodName)) ∈ lw_all := lw_g (lw_at lw_m3 71 rfl) rfl
theorem q714 : (Jvm.Cond.code ({ cls := "java/lang/StringUTF16", name := "indexOfSupplementary", desc := "([BIII)I" } : Jvm.MethodName) prog_49_method_49_code (7 : Nat) (Option.some Jvm.ClassFile.FieldType.int)) ∈ lw_all := lw_g (lw_at lw_m3 72 rfl) rfl
theorem q715 : (Jvm.Cond.methodLink "java/lang/StringUTF16" (164 : Nat) ({ cls := "java/lang/Character", name := "isValidCodePoint", desc := "(I)Z" } : Jvm.MethodName)) ∈ lw_all := lw_g (lw_at lw_m3 73 rfl) rfl
theorem q718 : (Jvm.Cond.methodLink "java/lang/StringUTF16" (157 : Nat) ({ cls := "java/lang/Character", name := "highSurrogate", desc := "(I)C" } : Jvm.MethodName)) ∈ lw_all := lw_g (lw_at lw_m3 76 rfl) rfl
theorem q722 : (Jvm.Cond.methodLink "java/lang/StringUTF16" (161 : Nat) ({ cls := "java/lang/Character", name := "lowSurrogate", desc := "(I)C" } : Jvm.MethodName)) ∈ lw_all := lw_g (lw_at lw_m3 80 rfl) rfl
theorem q746 : (Jvm.Cond.static ({ cls := "java/lang/StringUTF16", name := "charAt", desc := "([BI)C" } : Jvm.MethodName)) ∈ lw_all := lw_g (lw_at lw_m3 104 rfl) rfl
theorem q747 : (Jvm.Cond.code ({ cls := "java/lang/StringUTF16", name := "charAt", desc := "([BI)C" } : Jvm.MethodName) prog_49_method_83_code (2 : Nat) (Option.some Jvm.ClassFile.FieldType.char)) ∈ lw_all := lw_g (lw_at lw_m3 105 rfl) rfl
theorem q748 : (Jvm.Cond.methodLink "java/lang/StringUTF16" (67 : Nat) ({ cls := "java/lang/StringUTF16", name := "checkIndex", desc := "(I[B)V" } : Jvm.MethodName)) ∈ lw_all := lw_g (lw_at lw_m3 106 rfl) rfl
theorem q749 : (Jvm.Cond.static ({ cls := "java/lang/StringUTF16", name := "checkIndex", desc := "(I[B)V" } : Jvm.MethodName)) ∈ lw_all := lw_g (lw_at lw_m3 107 rfl) rfl
theorem q750 : (Jvm.Cond.code ({ cls := "java/lang/StringUTF16", name := "checkIndex", desc := "(I[B)V" } : Jvm.MethodName) prog_49_method_91_code (2 : Nat) (Option.none : Option Jvm.ClassFile.FieldType)) ∈ lw_all := lw_g (lw_at lw_m3 108 rfl) rfl
theorem q751 : (Jvm.Cond.methodLink "java/lang/StringUTF16" (414 : Nat) ({ cls := "java/lang/String", name := "checkIndex", desc := "(II)V" } : Jvm.MethodName)) ∈ lw_all := lw_g (lw_at lw_m3 109 rfl) rfl
theorem q183 : (Jvm.Cond.initialized "jdk/internal/util/Preconditions") ∈ lw_all := lw_g (lw_at lw_m1 21 rfl) rfl
theorem q698 : (Jvm.Cond.static ({ cls := "jdk/internal/util/Preconditions", name := "checkFromToIndex", desc := "(IIILjava/util/function/BiFunction;)I" } : Jvm.MethodName)) ∈ lw_all := lw_g (lw_at lw_m3 56 rfl) rfl
theorem q699 : (Jvm.Cond.code ({ cls := "jdk/internal/util/Preconditions", name := "checkFromToIndex", desc := "(IIILjava/util/function/BiFunction;)I" } : Jvm.MethodName) prog_52_method_12_code (4 : Nat) (Option.some Jvm.ClassFile.FieldType.int)) ∈ lw_all := lw_g (lw_at lw_m3 57 rfl) rfl
theorem q743 : (Jvm.Cond.static ({ cls := "jdk/internal/util/Preconditions", name := "checkIndex", desc := "(IILjava/util/function/BiFunction;)I" } : Jvm.MethodName)) ∈ lw_all := lw_g (lw_at lw_m3 101 rfl) rfl
theorem q744 : (Jvm.Cond.code ({ cls := "jdk/internal/util/Preconditions", name := "checkIndex", desc := "(IILjava/util/function/BiFunction;)I" } : Jvm.MethodName) prog_52_method_11_code (3 : Nat) (Option.some Jvm.ClassFile.FieldType.int)) ∈ lw_all := lw_g (lw_at lw_m3 102 rfl) rfl
theorem q184 : (Jvm.Cond.initialized "java/lang/Character") ∈ lw_all := lw_g (lw_at lw_m1 22 rfl) rfl
theorem q716 : (Jvm.Cond.static ({ cls := "java/lang/Character", name := "isValidCodePoint", desc := "(I)Z" } : Jvm.MethodName)) ∈ lw_all := lw_g (lw_at lw_m3 74 rfl) rfl
theorem q717 : (Jvm.Cond.code ({ cls := "java/lang/Character", name := "isValidCodePoint", desc := "(I)Z" } : Jvm.MethodName) prog_40_method_11_code (2 : Nat) (Option.some Jvm.ClassFile.FieldType.boolean)) ∈ lw_all := lw_g (lw_at lw_m3 75 rfl) rfl
theorem q719 : (Jvm.Cond.static ({ cls := "java/lang/Character", name := "highSurrogate", desc := "(I)C" } : Jvm.MethodName)) ∈ lw_all := lw_g (lw_at lw_m3 77 rfl) rfl
theorem q720 : (Jvm.Cond.code ({ cls := "java/lang/Character", name := "highSurrogate", desc := "(I)C" } : Jvm.MethodName) prog_40_method_28_code (1 : Nat) (Option.some Jvm.ClassFile.FieldType.char)) ∈ lw_all := lw_g (lw_at lw_m3 78 rfl) rfl
theorem q721 : (Jvm.Cond.constant "java/lang/Character" (110 : Nat) (55232 : Int32)) ∈ lw_all := lw_g (lw_at lw_m3 79 rfl) rfl
theorem q723 : (Jvm.Cond.static ({ cls := "java/lang/Character", name := "lowSurrogate", desc := "(I)C" } : Jvm.MethodName)) ∈ lw_all := lw_g (lw_at lw_m3 81 rfl) rfl
theorem q724 : (Jvm.Cond.code ({ cls := "java/lang/Character", name := "lowSurrogate", desc := "(I)C" } : Jvm.MethodName) prog_40_method_29_code (1 : Nat) (Option.some Jvm.ClassFile.FieldType.char)) ∈ lw_all := lw_g (lw_at lw_m3 82 rfl) rfl
theorem q725 : (Jvm.Cond.constant "java/lang/Character" (76 : Nat) (56320 : Int32)) ∈ lw_all := lw_g (lw_at lw_m3 83 rfl) rfl
theorem q207 : (Jvm.Cond.initialized "java/lang/IndexOutOfBoundsException") ∈ lw_all := lw_g (lw_at lw_m1 45 rfl) rfl
theorem q1493 : (Jvm.Cond.instanceMethod ({ cls := "java/lang/IndexOutOfBoundsException", name := "<init>", desc := "(Ljava/lang/String;)V" } : Jvm.MethodName)) ∈ lw_all := lw_g (lw_at lw_m6 131 rfl) rfl
theorem q1494 : (Jvm.Cond.code ({ cls := "java/lang/IndexOutOfBoundsException", name := "<init>", desc := "(Ljava/lang/String;)V" } : Jvm.MethodName) prog_43_method_2_code (2 : Nat) (Option.none : Option Jvm.ClassFile.FieldType)) ∈ lw_all := lw_g (lw_at lw_m6 132 rfl) rfl
theorem q1495 : (Jvm.Cond.methodLink "java/lang/IndexOutOfBoundsException" (7 : Nat) ({ cls := "java/lang/RuntimeException", name := "<init>", desc := "(Ljava/lang/String;)V" } : Jvm.MethodName)) ∈ lw_all := lw_g (lw_at lw_m6 133 rfl) rfl
theorem q1512 : (Jvm.Cond.declares ({ cls := "java/lang/IndexOutOfBoundsException", name := "<init>", desc := "()V" } : Jvm.MethodName)) ∈ lw_tbl := lw_at lw_m6 150 rfl
theorem q1513 : (Jvm.Cond.declares ({ cls := "java/lang/IndexOutOfBoundsException", name := "<init>", desc := "(Ljava/lang/String;)V" } : Jvm.MethodName)) ∈ lw_tbl := lw_at lw_m6 151 rfl
theorem q163 : (Jvm.Cond.initialized "TallySlate") ∈ lw_all := lw_g (lw_at lw_m1 1 rfl) rfl
theorem q216 : (Jvm.Cond.instanceMethod ({ cls := "TallySlate", name := "<init>", desc := "()V" } : Jvm.MethodName)) ∈ lw_all := lw_g (lw_at lw_m1 54 rfl) rfl
theorem q217 : (Jvm.Cond.code ({ cls := "TallySlate", name := "<init>", desc := "()V" } : Jvm.MethodName) prog_1_method_3_code (1 : Nat) (Option.none : Option Jvm.ClassFile.FieldType)) ∈ lw_all := lw_g (lw_at lw_m1 55 rfl) rfl
theorem q218 : (Jvm.Cond.methodLink "TallySlate" (9 : Nat) ({ cls := "java/lang/Object", name := "<init>", desc := "()V" } : Jvm.MethodName)) ∈ lw_all := lw_g (lw_at lw_m1 56 rfl) rfl
theorem q221 : (Jvm.Cond.classLink "TallySlate" (21 : Nat) "TallySlate$Fault") ∈ lw_all := lw_g (lw_at lw_m1 59 rfl) rfl
theorem q264 : (Jvm.Cond.methodLinkNest "TallySlate" (23 : Nat) ({ cls := "TallySlate$Fault", name := "<init>", desc := "()V" } : Jvm.MethodName) "TallySlate") ∈ lw_tbl := lw_at lw_m1 102 rfl
theorem q275 : (Jvm.Cond.fieldLinkNest "TallySlate" (56 : Nat) "TallySlate$Fault" "kind" "I" "TallySlate") ∈ lw_tbl := lw_at lw_m1 113 rfl
theorem q277 : (Jvm.Cond.fieldLinkNest "TallySlate" (59 : Nat) "TallySlate$Fault" "place" "I" "TallySlate") ∈ lw_tbl := lw_at lw_m1 115 rfl
theorem q296 : (Jvm.Cond.classLink "TallySlate" (28 : Nat) "TallySlate$Scanner") ∈ lw_all := lw_g (lw_at lw_m1 134 rfl) rfl
theorem q298 : (Jvm.Cond.methodLink "TallySlate" (30 : Nat) ({ cls := "TallySlate$Scanner", name := "<init>", desc := "(LTallySlate$Fault;)V" } : Jvm.MethodName)) ∈ lw_all := lw_g (lw_at lw_m1 136 rfl) rfl
theorem q330 : (Jvm.Cond.classLink "TallySlate" (37 : Nat) "TallySlate$Machine") ∈ lw_all := lw_g (lw_at lw_m1 168 rfl) rfl
theorem q332 : (Jvm.Cond.methodLinkNest "TallySlate" (39 : Nat) ({ cls := "TallySlate$Machine", name := "<init>", desc := "()V" } : Jvm.MethodName) "TallySlate") ∈ lw_tbl := lw_at lw_m1 170 rfl
theorem q347 : (Jvm.Cond.fieldLinkNest "TallySlate" (184 : Nat) "TallySlate$Shelves" "num" "[I" "TallySlate") ∈ lw_tbl := lw_at lw_m1 185 rfl
theorem q350 : (Jvm.Cond.fieldLinkNest "TallySlate" (173 : Nat) "TallySlate$Shelves" "thing" "[LTallySlate$Thing;" "TallySlate") ∈ lw_tbl := lw_at lw_m1 188 rfl
theorem q354 : (Jvm.Cond.fieldLinkNest "TallySlate" (169 : Nat) "TallySlate$Shelves" "there" "[Z" "TallySlate") ∈ lw_tbl := lw_at lw_m1 192 rfl
theorem q358 : (Jvm.Cond.fieldLinkNest "TallySlate" (242 : Nat) "TallySlate$Shelves" "kept" "I" "TallySlate") ∈ lw_tbl := lw_at lw_m1 196 rfl
theorem q413 : (Jvm.Cond.fieldLinkNest "TallySlate" (166 : Nat) "TallySlate$Output" "kept" "[B" "TallySlate") ∈ lw_tbl := lw_at lw_m2 11 rfl
theorem q416 : (Jvm.Cond.fieldLinkNest "TallySlate" (163 : Nat) "TallySlate$Output" "many" "I" "TallySlate") ∈ lw_tbl := lw_at lw_m2 14 rfl
theorem q436 : (Jvm.Cond.fieldLinkNest "TallySlate" (129 : Nat) "TallySlate$Trouble" "kind" "I" "TallySlate") ∈ lw_tbl := lw_at lw_m2 34 rfl
theorem q438 : (Jvm.Cond.fieldLinkNest "TallySlate" (143 : Nat) "TallySlate$Trouble" "place" "I" "TallySlate") ∈ lw_tbl := lw_at lw_m2 36 rfl
theorem q440 : (Jvm.Cond.fieldLinkNest "TallySlate" (144 : Nat) "TallySlate$Trouble" "raised" "I" "TallySlate") ∈ lw_tbl := lw_at lw_m2 38 rfl
theorem q467 : (Jvm.Cond.fieldLinkNest "TallySlate" (108 : Nat) "TallySlate$Machine" "shelves" "LTallySlate$Shelves;" "TallySlate") ∈ lw_tbl := lw_at lw_m2 65 rfl
theorem q475 : (Jvm.Cond.fieldLinkNest "TallySlate" (159 : Nat) "TallySlate$Machine" "out" "LTallySlate$Output;" "TallySlate") ∈ lw_tbl := lw_at lw_m2 73 rfl
theorem q477 : (Jvm.Cond.fieldLinkNest "TallySlate" (139 : Nat) "TallySlate$Machine" "trouble" "LTallySlate$Trouble;" "TallySlate") ∈ lw_tbl := lw_at lw_m2 75 rfl
theorem q481 : (Jvm.Cond.fieldLinkNest "TallySlate" (153 : Nat) "TallySlate$Machine" "most" "I" "TallySlate") ∈ lw_tbl := lw_at lw_m2 79 rfl
theorem q483 : (Jvm.Cond.fieldLinkNest "TallySlate" (147 : Nat) "TallySlate$Machine" "steps" "I" "TallySlate") ∈ lw_tbl := lw_at lw_m2 81 rfl
theorem q486 : (Jvm.Cond.fieldLinkNest "TallySlate" (150 : Nat) "TallySlate$Machine" "made" "I" "TallySlate") ∈ lw_tbl := lw_at lw_m2 84 rfl
theorem q488 : (Jvm.Cond.fieldLinkNest "TallySlate" (156 : Nat) "TallySlate$Machine" "taken" "I" "TallySlate") ∈ lw_tbl := lw_at lw_m2 86 rfl
theorem q526 : (Jvm.Cond.fieldLink "TallySlate" (17 : Nat) "TallySlate" "tape" "[B") ∈ lw_all := lw_g (lw_at lw_m2 124 rfl) rfl
theorem q527 : (Jvm.Cond.fieldLink "TallySlate" (44 : Nat) "TallySlate" "taped" "I") ∈ lw_all := lw_g (lw_at lw_m2 125 rfl) rfl
theorem q528 : (Jvm.Cond.fieldLink "TallySlate" (24 : Nat) "TallySlate" "fault" "LTallySlate$Fault;") ∈ lw_all := lw_g (lw_at lw_m2 126 rfl) rfl
theorem q529 : (Jvm.Cond.fieldLink "TallySlate" (52 : Nat) "TallySlate" "isTold" "Z") ∈ lw_all := lw_g (lw_at lw_m2 127 rfl) rfl
theorem q530 : (Jvm.Cond.fieldLink "TallySlate" (33 : Nat) "TallySlate" "scanner" "LTallySlate$Scanner;") ∈ lw_all := lw_g (lw_at lw_m2 128 rfl) rfl
theorem q531 : (Jvm.Cond.fieldLink "TallySlate" (40 : Nat) "TallySlate" "machine" "LTallySlate$Machine;") ∈ lw_all := lw_g (lw_at lw_m2 129 rfl) rfl
theorem q532 : (Jvm.Cond.fieldLink "TallySlate" (78 : Nat) "TallySlate" "program" "LTallySlate$Reader;") ∈ lw_all := lw_g (lw_at lw_m2 130 rfl) rfl
theorem q533 : (Jvm.Cond.fieldLink "TallySlate" (117 : Nat) "TallySlate" "ran" "Z") ∈ lw_all := lw_g (lw_at lw_m2 131 rfl) rfl
theorem q550 : (Jvm.Cond.superclass "TallySlate" "java/lang/Object") ∈ lw_all := lw_g (lw_at lw_m2 148 rfl) rfl
theorem q552 : (Jvm.Cond.instanceMethod ({ cls := "TallySlate", name := "feed", desc := "(IIIII)I" } : Jvm.MethodName)) ∈ lw_all := lw_g (lw_at lw_m2 150 rfl) rfl
theorem q553 : (Jvm.Cond.selects "TallySlate" ({ cls := "TallySlate", name := "feed", desc := "(IIIII)I" } : Jvm.MethodName) ({ cls := "TallySlate", name := "feed", desc := "(IIIII)I" } : Jvm.MethodName)) ∈ lw_all := lw_g (lw_at lw_m2 151 rfl) rfl
theorem q554 : (Jvm.Cond.code ({ cls := "TallySlate", name := "feed", desc := "(IIIII)I" } : Jvm.MethodName) prog_1_method_5_code (6 : Nat) (Option.some Jvm.ClassFile.FieldType.int)) ∈ lw_all := lw_g (lw_at lw_m2 152 rfl) rfl
theorem q555 : (Jvm.Cond.methodLink "TallySlate" (48 : Nat) ({ cls := "TallySlate", name := "lay", desc := "(I)V" } : Jvm.MethodName)) ∈ lw_all := lw_g (lw_at lw_m2 153 rfl) rfl
theorem q557 : (Jvm.Cond.instanceMethod ({ cls := "TallySlate", name := "lay", desc := "(I)V" } : Jvm.MethodName)) ∈ lw_all := lw_g (lw_at lw_m2 155 rfl) rfl
theorem q558 : (Jvm.Cond.code ({ cls := "TallySlate", name := "lay", desc := "(I)V" } : Jvm.MethodName) prog_1_method_4_code (3 : Nat) (Option.none : Option Jvm.ClassFile.FieldType)) ∈ lw_all := lw_g (lw_at lw_m2 156 rfl) rfl
theorem q560 : (Jvm.Cond.instanceMethod ({ cls := "TallySlate", name := "load", desc := "(I)I" } : Jvm.MethodName)) ∈ lw_all := lw_g (lw_at lw_m2 158 rfl) rfl
theorem q561 : (Jvm.Cond.selects "TallySlate" ({ cls := "TallySlate", name := "load", desc := "(I)I" } : Jvm.MethodName) ({ cls := "TallySlate", name := "load", desc := "(I)I" } : Jvm.MethodName)) ∈ lw_all := lw_g (lw_at lw_m2 159 rfl) rfl
theorem q562 : (Jvm.Cond.codeWith ({ cls := "TallySlate", name := "load", desc := "(I)I" } : Jvm.MethodName) prog_1_method_6_code (3 : Nat) (Option.some Jvm.ClassFile.FieldType.int) [((41 : Nat), (93 : Nat), (96 : Nat), (21 : Nat))]) ∈ lw_all := lw_g (lw_at lw_m2 160 rfl) rfl
theorem q563 : (Jvm.Cond.methodLink "TallySlate" (62 : Nat) ({ cls := "TallySlate$Scanner", name := "wrong", desc := "(II)LTallySlate$Fault;" } : Jvm.MethodName)) ∈ lw_all := lw_g (lw_at lw_m2 161 rfl) rfl
theorem q567 : (Jvm.Cond.methodLink "TallySlate" (66 : Nat) ({ cls := "TallySlate$Scanner", name := "begin", desc := "([BI)V" } : Jvm.MethodName)) ∈ lw_all := lw_g (lw_at lw_m2 165 rfl) rfl
theorem q574 : (Jvm.Cond.classLink "TallySlate" (70 : Nat) "TallySlate$Reader") ∈ lw_all := lw_g (lw_at lw_m2 172 rfl) rfl
theorem q576 : (Jvm.Cond.methodLink "TallySlate" (72 : Nat) ({ cls := "TallySlate$Reader", name := "<init>", desc := "(LTallySlate$Scanner;)V" } : Jvm.MethodName)) ∈ lw_all := lw_g (lw_at lw_m2 174 rfl) rfl
theorem q586 : (Jvm.Cond.fieldLinkNest "TallySlate" (85 : Nat) "TallySlate$Reader" "functions" "[LTallySlate$Definition;" "TallySlate") ∈ lw_tbl := lw_at lw_m2 184 rfl
theorem q588 : (Jvm.Cond.fieldLinkNest "TallySlate" (82 : Nat) "TallySlate$Reader" "many" "I" "TallySlate") ∈ lw_tbl := lw_at lw_m2 186 rfl
theorem q605 : (Jvm.Cond.methodLink "TallySlate" (75 : Nat) ({ cls := "TallySlate$Reader", name := "read", desc := "()V" } : Jvm.MethodName)) ∈ lw_all := lw_g (lw_at lw_m2 203 rfl) rfl
theorem q780 : (Jvm.Cond.fieldLinkNest "TallySlate" (101 : Nat) "TallySlate$Definition" "place" "I" "TallySlate") ∈ lw_tbl := lw_at lw_m3 138 rfl
theorem q782 : (Jvm.Cond.fieldLinkNest "TallySlate" (93 : Nat) "TallySlate$Definition" "parameters" "I" "TallySlate") ∈ lw_tbl := lw_at lw_m3 140 rfl
theorem q784 : (Jvm.Cond.fieldLinkNest "TallySlate" (98 : Nat) "TallySlate$Definition" "variables" "I" "TallySlate") ∈ lw_tbl := lw_at lw_m3 142 rfl
theorem q1290 : (Jvm.Cond.instanceMethod ({ cls := "TallySlate", name := "fault", desc := "(I)I" } : Jvm.MethodName)) ∈ lw_all := lw_g (lw_at lw_m5 168 rfl) rfl
theorem q1291 : (Jvm.Cond.selects "TallySlate" ({ cls := "TallySlate", name := "fault", desc := "(I)I" } : Jvm.MethodName) ({ cls := "TallySlate", name := "fault", desc := "(I)I" } : Jvm.MethodName)) ∈ lw_all := lw_g (lw_at lw_m5 169 rfl) rfl
theorem q1292 : (Jvm.Cond.code ({ cls := "TallySlate", name := "fault", desc := "(I)I" } : Jvm.MethodName) prog_1_method_7_code (2 : Nat) (Option.some Jvm.ClassFile.FieldType.int)) ∈ lw_all := lw_g (lw_at lw_m5 170 rfl) rfl
theorem q1294 : (Jvm.Cond.instanceMethod ({ cls := "TallySlate", name := "function", desc := "(II)I" } : Jvm.MethodName)) ∈ lw_all := lw_g (lw_at lw_m5 172 rfl) rfl
theorem q1295 : (Jvm.Cond.selects "TallySlate" ({ cls := "TallySlate", name := "function", desc := "(II)I" } : Jvm.MethodName) ({ cls := "TallySlate", name := "function", desc := "(II)I" } : Jvm.MethodName)) ∈ lw_all := lw_g (lw_at lw_m5 173 rfl) rfl
theorem q1296 : (Jvm.Cond.code ({ cls := "TallySlate", name := "function", desc := "(II)I" } : Jvm.MethodName) prog_1_method_9_code (4 : Nat) (Option.some Jvm.ClassFile.FieldType.int)) ∈ lw_all := lw_g (lw_at lw_m5 174 rfl) rfl
theorem q1297 : (Jvm.Cond.methodLink "TallySlate" (89 : Nat) ({ cls := "TallySlate", name := "definition", desc := "(I)LTallySlate$Definition;" } : Jvm.MethodName)) ∈ lw_all := lw_g (lw_at lw_m5 175 rfl) rfl
theorem q1299 : (Jvm.Cond.instanceMethod ({ cls := "TallySlate", name := "definition", desc := "(I)LTallySlate$Definition;" } : Jvm.MethodName)) ∈ lw_all := lw_g (lw_at lw_m5 177 rfl) rfl
theorem q1300 : (Jvm.Cond.code ({ cls := "TallySlate", name := "definition", desc := "(I)LTallySlate$Definition;" } : Jvm.MethodName) prog_1_method_8_code (2 : Nat) (Option.some (Jvm.ClassFile.FieldType.object "TallySlate$Definition"))) ∈ lw_all := lw_g (lw_at lw_m5 178 rfl) rfl
theorem q1302 : (Jvm.Cond.instanceMethod ({ cls := "TallySlate", name := "run", desc := "(III)I" } : Jvm.MethodName)) ∈ lw_all := lw_g (lw_at lw_m5 180 rfl) rfl
theorem q1303 : (Jvm.Cond.selects "TallySlate" ({ cls := "TallySlate", name := "run", desc := "(III)I" } : Jvm.MethodName) ({ cls := "TallySlate", name := "run", desc := "(III)I" } : Jvm.MethodName)) ∈ lw_all := lw_g (lw_at lw_m5 181 rfl) rfl
theorem q1304 : (Jvm.Cond.codeWith ({ cls := "TallySlate", name := "run", desc := "(III)I" } : Jvm.MethodName) prog_1_method_11_code (7 : Nat) (Option.some Jvm.ClassFile.FieldType.int) [((73 : Nat), (81 : Nat), (84 : Nat), (124 : Nat))]) ∈ lw_all := lw_g (lw_at lw_m5 182 rfl) rfl
theorem q1305 : (Jvm.Cond.classLink "TallySlate" (124 : Nat) "TallySlate$Trouble") ∈ lw_all := lw_g (lw_at lw_m5 183 rfl) rfl
theorem q1306 : (Jvm.Cond.methodLink "TallySlate" (102 : Nat) ({ cls := "TallySlate", name := "isShelf", desc := "(I)Z" } : Jvm.MethodName)) ∈ lw_all := lw_g (lw_at lw_m5 184 rfl) rfl
theorem q1307 : (Jvm.Cond.static ({ cls := "TallySlate", name := "isShelf", desc := "(I)Z" } : Jvm.MethodName)) ∈ lw_all := lw_g (lw_at lw_m5 185 rfl) rfl
theorem q1308 : (Jvm.Cond.code ({ cls := "TallySlate", name := "isShelf", desc := "(I)Z" } : Jvm.MethodName) prog_1_method_10_code (1 : Nat) (Option.some Jvm.ClassFile.FieldType.boolean)) ∈ lw_all := lw_g (lw_at lw_m5 186 rfl) rfl
theorem q1309 : (Jvm.Cond.methodLink "TallySlate" (106 : Nat) ({ cls := "TallySlate$Machine", name := "begin", desc := "(I)V" } : Jvm.MethodName)) ∈ lw_all := lw_g (lw_at lw_m5 187 rfl) rfl
theorem q1313 : (Jvm.Cond.methodLink "TallySlate" (112 : Nat) ({ cls := "TallySlate$Shelves", name := "keep", desc := "(I)V" } : Jvm.MethodName)) ∈ lw_all := lw_g (lw_at lw_m5 191 rfl) rfl
theorem q1318 : (Jvm.Cond.methodLink "TallySlate" (120 : Nat) ({ cls := "TallySlate$Machine", name := "call", desc := "(LTallySlate$Definition;I)V" } : Jvm.MethodName)) ∈ lw_all := lw_g (lw_at lw_m5 196 rfl) rfl
theorem q1406 : (Jvm.Cond.fieldLinkNest "TallySlate" (200 : Nat) "TallySlate$Row" "a" "[I" "TallySlate") ∈ lw_tbl := lw_at lw_m6 44 rfl
theorem q1476 : (Jvm.Cond.fieldLinkNest "TallySlate" (220 : Nat) "TallySlate$Table" "a" "[[I" "TallySlate") ∈ lw_tbl := lw_at lw_m6 114 rfl
theorem q1591 : (Jvm.Cond.fieldLinkNest "TallySlate" (225 : Nat) "TallySlate$Pack" "a" "[LTallySlate$Thing;" "TallySlate") ∈ lw_tbl := lw_at lw_m6 229 rfl
theorem q1672 : (Jvm.Cond.fieldLinkNest "TallySlate" (233 : Nat) "TallySlate$Whole" "v" "I" "TallySlate") ∈ lw_tbl := lw_at lw_m7 70 rfl
theorem q1901 : (Jvm.Cond.static ({ cls := "TallySlate", name := "alike", desc := "(ILTallySlate$Thing;ILTallySlate$Thing;)Z" } : Jvm.MethodName)) ∈ lw_all := lw_g (lw_at lw_m8 59 rfl) rfl
theorem q1902 : (Jvm.Cond.code ({ cls := "TallySlate", name := "alike", desc := "(ILTallySlate$Thing;ILTallySlate$Thing;)Z" } : Jvm.MethodName) prog_1_method_2_code (4 : Nat) (Option.some Jvm.ClassFile.FieldType.boolean)) ∈ lw_all := lw_g (lw_at lw_m8 60 rfl) rfl
theorem q1903 : (Jvm.Cond.methodLink "TallySlate" (3 : Nat) ({ cls := "TallySlate$Thing", name := "same", desc := "(LTallySlate$Thing;)Z" } : Jvm.MethodName)) ∈ lw_all := lw_g (lw_at lw_m8 61 rfl) rfl
theorem q2053 : (Jvm.Cond.methodLink "TallySlate" (126 : Nat) ({ cls := "TallySlate$Shelves", name := "back", desc := "(I)V" } : Jvm.MethodName)) ∈ lw_all := lw_g (lw_at lw_m8 211 rfl) rfl
theorem q2057 : (Jvm.Cond.methodLink "TallySlate" (130 : Nat) ({ cls := "TallySlate$Machine", name := "drop", desc := "()V" } : Jvm.MethodName)) ∈ lw_all := lw_g (lw_at lw_m8 215 rfl) rfl
theorem q2058 : (Jvm.Cond.methodLink "TallySlate" (133 : Nat) ({ cls := "TallySlate$Machine", name := "put", desc := "(I)V" } : Jvm.MethodName)) ∈ lw_all := lw_g (lw_at lw_m8 216 rfl) rfl
theorem q2059 : (Jvm.Cond.methodLink "TallySlate" (136 : Nat) ({ cls := "TallySlate$Machine", name := "wrong", desc := "(II)LTallySlate$Trouble;" } : Jvm.MethodName)) ∈ lw_all := lw_g (lw_at lw_m8 217 rfl) rfl
theorem q2061 : (Jvm.Cond.instanceMethod ({ cls := "TallySlate", name := "trouble", desc := "(I)I" } : Jvm.MethodName)) ∈ lw_all := lw_g (lw_at lw_m8 219 rfl) rfl
theorem q2062 : (Jvm.Cond.selects "TallySlate" ({ cls := "TallySlate", name := "trouble", desc := "(I)I" } : Jvm.MethodName) ({ cls := "TallySlate", name := "trouble", desc := "(I)I" } : Jvm.MethodName)) ∈ lw_all := lw_g (lw_at lw_m8 220 rfl) rfl
theorem q2063 : (Jvm.Cond.code ({ cls := "TallySlate", name := "trouble", desc := "(I)I" } : Jvm.MethodName) prog_1_method_12_code (2 : Nat) (Option.some Jvm.ClassFile.FieldType.int)) ∈ lw_all := lw_g (lw_at lw_m8 221 rfl) rfl
theorem q2065 : (Jvm.Cond.instanceMethod ({ cls := "TallySlate", name := "out", desc := "(I)I" } : Jvm.MethodName)) ∈ lw_all := lw_g (lw_at lw_m8 223 rfl) rfl
theorem q2066 : (Jvm.Cond.selects "TallySlate" ({ cls := "TallySlate", name := "out", desc := "(I)I" } : Jvm.MethodName) ({ cls := "TallySlate", name := "out", desc := "(I)I" } : Jvm.MethodName)) ∈ lw_all := lw_g (lw_at lw_m8 224 rfl) rfl
theorem q2067 : (Jvm.Cond.code ({ cls := "TallySlate", name := "out", desc := "(I)I" } : Jvm.MethodName) prog_1_method_13_code (2 : Nat) (Option.some Jvm.ClassFile.FieldType.int)) ∈ lw_all := lw_g (lw_at lw_m8 225 rfl) rfl
theorem q2069 : (Jvm.Cond.instanceMethod ({ cls := "TallySlate", name := "outs", desc := "()I" } : Jvm.MethodName)) ∈ lw_all := lw_g (lw_at lw_m8 227 rfl) rfl
theorem q2070 : (Jvm.Cond.selects "TallySlate" ({ cls := "TallySlate", name := "outs", desc := "()I" } : Jvm.MethodName) ({ cls := "TallySlate", name := "outs", desc := "()I" } : Jvm.MethodName)) ∈ lw_all := lw_g (lw_at lw_m8 228 rfl) rfl
theorem q2071 : (Jvm.Cond.code ({ cls := "TallySlate", name := "outs", desc := "()I" } : Jvm.MethodName) prog_1_method_14_code (1 : Nat) (Option.some Jvm.ClassFile.FieldType.int)) ∈ lw_all := lw_g (lw_at lw_m8 229 rfl) rfl
theorem q2073 : (Jvm.Cond.instanceMethod ({ cls := "TallySlate", name := "show", desc := "(I)I" } : Jvm.MethodName)) ∈ lw_all := lw_g (lw_at lw_m8 231 rfl) rfl
theorem q2074 : (Jvm.Cond.selects "TallySlate" ({ cls := "TallySlate", name := "show", desc := "(I)I" } : Jvm.MethodName) ({ cls := "TallySlate", name := "show", desc := "(I)I" } : Jvm.MethodName)) ∈ lw_all := lw_g (lw_at lw_m8 232 rfl) rfl
theorem q2075 : (Jvm.Cond.code ({ cls := "TallySlate", name := "show", desc := "(I)I" } : Jvm.MethodName) prog_1_method_17_code (2 : Nat) (Option.some Jvm.ClassFile.FieldType.int)) ∈ lw_all := lw_g (lw_at lw_m8 233 rfl) rfl
theorem q2076 : (Jvm.Cond.methodLink "TallySlate" (177 : Nat) ({ cls := "TallySlate", name := "has", desc := "(I)Z" } : Jvm.MethodName)) ∈ lw_all := lw_g (lw_at lw_m8 234 rfl) rfl
theorem q2078 : (Jvm.Cond.instanceMethod ({ cls := "TallySlate", name := "has", desc := "(I)Z" } : Jvm.MethodName)) ∈ lw_all := lw_g (lw_at lw_m8 236 rfl) rfl
theorem q2079 : (Jvm.Cond.code ({ cls := "TallySlate", name := "has", desc := "(I)Z" } : Jvm.MethodName) prog_1_method_15_code (2 : Nat) (Option.some Jvm.ClassFile.FieldType.boolean)) ∈ lw_all := lw_g (lw_at lw_m8 237 rfl) rfl
theorem q2080 : (Jvm.Cond.methodLink "TallySlate" (180 : Nat) ({ cls := "TallySlate", name := "thingOn", desc := "(I)LTallySlate$Thing;" } : Jvm.MethodName)) ∈ lw_all := lw_g (lw_at lw_m8 238 rfl) rfl
theorem q2082 : (Jvm.Cond.instanceMethod ({ cls := "TallySlate", name := "thingOn", desc := "(I)LTallySlate$Thing;" } : Jvm.MethodName)) ∈ lw_all := lw_g (lw_at lw_m9 0 rfl) rfl
theorem q2083 : (Jvm.Cond.code ({ cls := "TallySlate", name := "thingOn", desc := "(I)LTallySlate$Thing;" } : Jvm.MethodName) prog_1_method_16_code (2 : Nat) (Option.some (Jvm.ClassFile.FieldType.object "TallySlate$Thing"))) ∈ lw_all := lw_g (lw_at lw_m9 1 rfl) rfl
theorem q2084 : (Jvm.Cond.methodLink "TallySlate" (188 : Nat) ({ cls := "TallySlate$Output", name := "number", desc := "(I)V" } : Jvm.MethodName)) ∈ lw_all := lw_g (lw_at lw_m9 2 rfl) rfl
theorem q2085 : (Jvm.Cond.methodLink "TallySlate" (191 : Nat) ({ cls := "TallySlate$Thing", name := "form", desc := "(LTallySlate$Output;)V" } : Jvm.MethodName)) ∈ lw_all := lw_g (lw_at lw_m9 3 rfl) rfl
theorem q2087 : (Jvm.Cond.instanceMethod ({ cls := "TallySlate", name := "set", desc := "(II)Z" } : Jvm.MethodName)) ∈ lw_all := lw_g (lw_at lw_m9 5 rfl) rfl
theorem q2088 : (Jvm.Cond.selects "TallySlate" ({ cls := "TallySlate", name := "set", desc := "(II)Z" } : Jvm.MethodName) ({ cls := "TallySlate", name := "set", desc := "(II)Z" } : Jvm.MethodName)) ∈ lw_all := lw_g (lw_at lw_m9 6 rfl) rfl
theorem q2089 : (Jvm.Cond.code ({ cls := "TallySlate", name := "set", desc := "(II)Z" } : Jvm.MethodName) prog_1_method_18_code (3 : Nat) (Option.some Jvm.ClassFile.FieldType.boolean)) ∈ lw_all := lw_g (lw_at lw_m9 7 rfl) rfl
theorem q2090 : (Jvm.Cond.methodLink "TallySlate" (195 : Nat) ({ cls := "TallySlate$Shelves", name := "put", desc := "(IILTallySlate$Thing;)V" } : Jvm.MethodName)) ∈ lw_all := lw_g (lw_at lw_m9 8 rfl) rfl
theorem q2092 : (Jvm.Cond.instanceMethod ({ cls := "TallySlate", name := "add", desc := "(II)Z" } : Jvm.MethodName)) ∈ lw_all := lw_g (lw_at lw_m9 10 rfl) rfl
theorem q2093 : (Jvm.Cond.selects "TallySlate" ({ cls := "TallySlate", name := "add", desc := "(II)Z" } : Jvm.MethodName) ({ cls := "TallySlate", name := "add", desc := "(II)Z" } : Jvm.MethodName)) ∈ lw_all := lw_g (lw_at lw_m9 11 rfl) rfl
theorem q2094 : (Jvm.Cond.code ({ cls := "TallySlate", name := "add", desc := "(II)Z" } : Jvm.MethodName) prog_1_method_19_code (6 : Nat) (Option.some Jvm.ClassFile.FieldType.boolean)) ∈ lw_all := lw_g (lw_at lw_m9 12 rfl) rfl
theorem q2095 : (Jvm.Cond.classLink "TallySlate" (198 : Nat) "TallySlate$Row") ∈ lw_all := lw_g (lw_at lw_m9 13 rfl) rfl
theorem q2096 : (Jvm.Cond.methodLink "TallySlate" (203 : Nat) ({ cls := "java/lang/System", name := "arraycopy", desc := "(Ljava/lang/Object;ILjava/lang/Object;II)V" } : Jvm.MethodName)) ∈ lw_all := lw_g (lw_at lw_m9 14 rfl) rfl
theorem q2097 : (Jvm.Cond.methodLink "TallySlate" (209 : Nat) ({ cls := "TallySlate$Row", name := "<init>", desc := "([I)V" } : Jvm.MethodName)) ∈ lw_all := lw_g (lw_at lw_m9 15 rfl) rfl
theorem q2099 : (Jvm.Cond.instanceMethod ({ cls := "TallySlate", name := "clear", desc := "(I)Z" } : Jvm.MethodName)) ∈ lw_all := lw_g (lw_at lw_m9 17 rfl) rfl
theorem q2100 : (Jvm.Cond.selects "TallySlate" ({ cls := "TallySlate", name := "clear", desc := "(I)Z" } : Jvm.MethodName) ({ cls := "TallySlate", name := "clear", desc := "(I)Z" } : Jvm.MethodName)) ∈ lw_all := lw_g (lw_at lw_m9 18 rfl) rfl
theorem q2101 : (Jvm.Cond.code ({ cls := "TallySlate", name := "clear", desc := "(I)Z" } : Jvm.MethodName) prog_1_method_20_code (2 : Nat) (Option.some Jvm.ClassFile.FieldType.boolean)) ∈ lw_all := lw_g (lw_at lw_m9 19 rfl) rfl
theorem q2103 : (Jvm.Cond.instanceMethod ({ cls := "TallySlate", name := "kind", desc := "(I)I" } : Jvm.MethodName)) ∈ lw_all := lw_g (lw_at lw_m9 21 rfl) rfl
theorem q2104 : (Jvm.Cond.selects "TallySlate" ({ cls := "TallySlate", name := "kind", desc := "(I)I" } : Jvm.MethodName) ({ cls := "TallySlate", name := "kind", desc := "(I)I" } : Jvm.MethodName)) ∈ lw_all := lw_g (lw_at lw_m9 22 rfl) rfl
theorem q2105 : (Jvm.Cond.code ({ cls := "TallySlate", name := "kind", desc := "(I)I" } : Jvm.MethodName) prog_1_method_21_code (2 : Nat) (Option.some Jvm.ClassFile.FieldType.int)) ∈ lw_all := lw_g (lw_at lw_m9 23 rfl) rfl
theorem q2106 : (Jvm.Cond.methodLink "TallySlate" (212 : Nat) ({ cls := "TallySlate$Thing", name := "kind", desc := "()I" } : Jvm.MethodName)) ∈ lw_all := lw_g (lw_at lw_m9 24 rfl) rfl
theorem q2108 : (Jvm.Cond.instanceMethod ({ cls := "TallySlate", name := "size", desc := "(II)I" } : Jvm.MethodName)) ∈ lw_all := lw_g (lw_at lw_m9 26 rfl) rfl
theorem q2109 : (Jvm.Cond.selects "TallySlate" ({ cls := "TallySlate", name := "size", desc := "(II)I" } : Jvm.MethodName) ({ cls := "TallySlate", name := "size", desc := "(II)I" } : Jvm.MethodName)) ∈ lw_all := lw_g (lw_at lw_m9 27 rfl) rfl
theorem q2110 : (Jvm.Cond.code ({ cls := "TallySlate", name := "size", desc := "(II)I" } : Jvm.MethodName) prog_1_method_22_code (5 : Nat) (Option.some Jvm.ClassFile.FieldType.int)) ∈ lw_all := lw_g (lw_at lw_m9 28 rfl) rfl
theorem q2111 : (Jvm.Cond.methodLink "TallySlate" (215 : Nat) ({ cls := "TallySlate$Thing", name := "size", desc := "()I" } : Jvm.MethodName)) ∈ lw_all := lw_g (lw_at lw_m9 29 rfl) rfl
theorem q2112 : (Jvm.Cond.classLink "TallySlate" (218 : Nat) "TallySlate$Table") ∈ lw_all := lw_g (lw_at lw_m9 30 rfl) rfl
theorem q2113 : (Jvm.Cond.classLink "TallySlate" (223 : Nat) "TallySlate$Pack") ∈ lw_all := lw_g (lw_at lw_m9 31 rfl) rfl
theorem q2115 : (Jvm.Cond.instanceMethod ({ cls := "TallySlate", name := "cell", desc := "(III)I" } : Jvm.MethodName)) ∈ lw_all := lw_g (lw_at lw_m9 33 rfl) rfl
theorem q2116 : (Jvm.Cond.selects "TallySlate" ({ cls := "TallySlate", name := "cell", desc := "(III)I" } : Jvm.MethodName) ({ cls := "TallySlate", name := "cell", desc := "(III)I" } : Jvm.MethodName)) ∈ lw_all := lw_g (lw_at lw_m9 34 rfl) rfl
theorem q2117 : (Jvm.Cond.code ({ cls := "TallySlate", name := "cell", desc := "(III)I" } : Jvm.MethodName) prog_1_method_24_code (8 : Nat) (Option.some Jvm.ClassFile.FieldType.int)) ∈ lw_all := lw_g (lw_at lw_m9 35 rfl) rfl
theorem q2118 : (Jvm.Cond.methodLink "TallySlate" (227 : Nat) ({ cls := "TallySlate", name := "intOf", desc := "([II)I" } : Jvm.MethodName)) ∈ lw_all := lw_g (lw_at lw_m9 36 rfl) rfl
theorem q2119 : (Jvm.Cond.static ({ cls := "TallySlate", name := "intOf", desc := "([II)I" } : Jvm.MethodName)) ∈ lw_all := lw_g (lw_at lw_m9 37 rfl) rfl
theorem q2120 : (Jvm.Cond.code ({ cls := "TallySlate", name := "intOf", desc := "([II)I" } : Jvm.MethodName) prog_1_method_23_code (2 : Nat) (Option.some Jvm.ClassFile.FieldType.int)) ∈ lw_all := lw_g (lw_at lw_m9 38 rfl) rfl
theorem q2121 : (Jvm.Cond.classLink "TallySlate" (231 : Nat) "TallySlate$Whole") ∈ lw_all := lw_g (lw_at lw_m9 39 rfl) rfl
theorem q2123 : (Jvm.Cond.instanceMethod ({ cls := "TallySlate", name := "same", desc := "(II)Z" } : Jvm.MethodName)) ∈ lw_all := lw_g (lw_at lw_m9 41 rfl) rfl
theorem q2124 : (Jvm.Cond.selects "TallySlate" ({ cls := "TallySlate", name := "same", desc := "(II)Z" } : Jvm.MethodName) ({ cls := "TallySlate", name := "same", desc := "(II)Z" } : Jvm.MethodName)) ∈ lw_all := lw_g (lw_at lw_m9 42 rfl) rfl
theorem q2125 : (Jvm.Cond.code ({ cls := "TallySlate", name := "same", desc := "(II)Z" } : Jvm.MethodName) prog_1_method_25_code (3 : Nat) (Option.some Jvm.ClassFile.FieldType.boolean)) ∈ lw_all := lw_g (lw_at lw_m9 43 rfl) rfl
theorem q2126 : (Jvm.Cond.methodLink "TallySlate" (236 : Nat) ({ cls := "TallySlate$Shelves", name := "same", desc := "(II)Z" } : Jvm.MethodName)) ∈ lw_all := lw_g (lw_at lw_m9 44 rfl) rfl
theorem q2132 : (Jvm.Cond.instanceMethod ({ cls := "TallySlate", name := "mark", desc := "()I" } : Jvm.MethodName)) ∈ lw_all := lw_g (lw_at lw_m9 50 rfl) rfl
theorem q2133 : (Jvm.Cond.selects "TallySlate" ({ cls := "TallySlate", name := "mark", desc := "()I" } : Jvm.MethodName) ({ cls := "TallySlate", name := "mark", desc := "()I" } : Jvm.MethodName)) ∈ lw_all := lw_g (lw_at lw_m9 51 rfl) rfl
theorem q2134 : (Jvm.Cond.code ({ cls := "TallySlate", name := "mark", desc := "()I" } : Jvm.MethodName) prog_1_method_26_code (1 : Nat) (Option.some Jvm.ClassFile.FieldType.int)) ∈ lw_all := lw_g (lw_at lw_m9 52 rfl) rfl
theorem q2135 : (Jvm.Cond.methodLink "TallySlate" (239 : Nat) ({ cls := "TallySlate$Shelves", name := "mark", desc := "()I" } : Jvm.MethodName)) ∈ lw_all := lw_g (lw_at lw_m9 53 rfl) rfl
theorem q2141 : (Jvm.Cond.instanceMethod ({ cls := "TallySlate", name := "back", desc := "()Z" } : Jvm.MethodName)) ∈ lw_all := lw_g (lw_at lw_m9 59 rfl) rfl
theorem q2142 : (Jvm.Cond.selects "TallySlate" ({ cls := "TallySlate", name := "back", desc := "()Z" } : Jvm.MethodName) ({ cls := "TallySlate", name := "back", desc := "()Z" } : Jvm.MethodName)) ∈ lw_all := lw_g (lw_at lw_m9 60 rfl) rfl
theorem q2143 : (Jvm.Cond.code ({ cls := "TallySlate", name := "back", desc := "()Z" } : Jvm.MethodName) prog_1_method_27_code (1 : Nat) (Option.some Jvm.ClassFile.FieldType.boolean)) ∈ lw_all := lw_g (lw_at lw_m9 61 rfl) rfl
theorem q2145 : (Jvm.Cond.instanceMethod ({ cls := "TallySlate", name := "sum", desc := "()J" } : Jvm.MethodName)) ∈ lw_all := lw_g (lw_at lw_m9 63 rfl) rfl
theorem q2146 : (Jvm.Cond.selects "TallySlate" ({ cls := "TallySlate", name := "sum", desc := "()J" } : Jvm.MethodName) ({ cls := "TallySlate", name := "sum", desc := "()J" } : Jvm.MethodName)) ∈ lw_all := lw_g (lw_at lw_m9 64 rfl) rfl
theorem q2147 : (Jvm.Cond.code ({ cls := "TallySlate", name := "sum", desc := "()J" } : Jvm.MethodName) prog_1_method_28_code (4 : Nat) (Option.some Jvm.ClassFile.FieldType.long)) ∈ lw_all := lw_g (lw_at lw_m9 65 rfl) rfl
theorem q2148 : (Jvm.Cond.constantLong "TallySlate" (244 : Nat) (-1 : Int64)) ∈ lw_all := lw_g (lw_at lw_m9 66 rfl) rfl
theorem q2149 : (Jvm.Cond.methodLink "TallySlate" (246 : Nat) ({ cls := "TallySlate", name := "joined", desc := "(JJ)J" } : Jvm.MethodName)) ∈ lw_all := lw_g (lw_at lw_m9 67 rfl) rfl
theorem q2150 : (Jvm.Cond.static ({ cls := "TallySlate", name := "joined", desc := "(JJ)J" } : Jvm.MethodName)) ∈ lw_all := lw_g (lw_at lw_m9 68 rfl) rfl
theorem q2151 : (Jvm.Cond.code ({ cls := "TallySlate", name := "joined", desc := "(JJ)J" } : Jvm.MethodName) prog_1_method_1_code (4 : Nat) (Option.some Jvm.ClassFile.FieldType.long)) ∈ lw_all := lw_g (lw_at lw_m9 69 rfl) rfl
theorem q2152 : (Jvm.Cond.constantLong "TallySlate" (1 : Nat) (1000003 : Int64)) ∈ lw_all := lw_g (lw_at lw_m9 70 rfl) rfl
theorem q2153 : (Jvm.Cond.methodLink "TallySlate" (250 : Nat) ({ cls := "TallySlate$Thing", name := "sum", desc := "(J)J" } : Jvm.MethodName)) ∈ lw_all := lw_g (lw_at lw_m9 71 rfl) rfl
theorem q167 : (Jvm.Cond.initialized "TallySlate$Fault") ∈ lw_all := lw_g (lw_at lw_m1 5 rfl) rfl
theorem q223 : (Jvm.Cond.castable "TallySlate$Fault" "TallySlate$Fault") ∈ lw_tbl := lw_at lw_m1 61 rfl
theorem q230 : (Jvm.Cond.selects "TallySlate$Fault" ({ cls := "java/lang/Throwable", name := "fillInStackTrace", desc := "(I)Ljava/lang/Throwable;" } : Jvm.MethodName) ({ cls := "java/lang/Throwable", name := "fillInStackTrace", desc := "(I)Ljava/lang/Throwable;" } : Jvm.MethodName)) ∈ lw_all := lw_g (lw_at lw_m1 68 rfl) rfl
theorem q231 : (Jvm.Cond.selects "TallySlate$Fault" ({ cls := "java/lang/Throwable", name := "fillInStackTrace", desc := "()Ljava/lang/Throwable;" } : Jvm.MethodName) ({ cls := "java/lang/Throwable", name := "fillInStackTrace", desc := "()Ljava/lang/Throwable;" } : Jvm.MethodName)) ∈ lw_all := lw_g (lw_at lw_m1 69 rfl) rfl
theorem q265 : (Jvm.Cond.instanceMethod ({ cls := "TallySlate$Fault", name := "<init>", desc := "()V" } : Jvm.MethodName)) ∈ lw_all := lw_g (lw_at lw_m1 103 rfl) rfl
theorem q266 : (Jvm.Cond.code ({ cls := "TallySlate$Fault", name := "<init>", desc := "()V" } : Jvm.MethodName) prog_9_method_1_code (1 : Nat) (Option.none : Option Jvm.ClassFile.FieldType)) ∈ lw_all := lw_g (lw_at lw_m1 104 rfl) rfl
theorem q267 : (Jvm.Cond.methodLink "TallySlate$Fault" (1 : Nat) ({ cls := "java/lang/RuntimeException", name := "<init>", desc := "()V" } : Jvm.MethodName)) ∈ lw_all := lw_g (lw_at lw_m1 105 rfl) rfl
theorem q294 : (Jvm.Cond.superclass "TallySlate$Fault" "java/lang/RuntimeException") ∈ lw_all := lw_g (lw_at lw_m1 132 rfl) rfl
theorem q176 : (Jvm.Cond.initialized "TallySlateModel") ∈ lw_all := lw_g (lw_at lw_m1 14 rfl) rfl
theorem q2182 : (Jvm.Cond.instanceMethod ({ cls := "TallySlateModel", name := "<init>", desc := "()V" } : Jvm.MethodName)) ∈ lw_all := lw_g (lw_at lw_m9 100 rfl) rfl
theorem q2183 : (Jvm.Cond.code ({ cls := "TallySlateModel", name := "<init>", desc := "()V" } : Jvm.MethodName) prog_37_method_1_code (2 : Nat) (Option.none : Option Jvm.ClassFile.FieldType)) ∈ lw_all := lw_g (lw_at lw_m9 101 rfl) rfl
theorem q2184 : (Jvm.Cond.methodLink "TallySlateModel" (1 : Nat) ({ cls := "java/lang/Object", name := "<init>", desc := "()V" } : Jvm.MethodName)) ∈ lw_all := lw_g (lw_at lw_m9 102 rfl) rfl
theorem q2185 : (Jvm.Cond.constantLong "TallySlateModel" (7 : Nat) (176 : Int64)) ∈ lw_all := lw_g (lw_at lw_m9 103 rfl) rfl
theorem q2186 : (Jvm.Cond.constantLong "TallySlateModel" (9 : Nat) (249 : Int64)) ∈ lw_all := lw_g (lw_at lw_m9 104 rfl) rfl
theorem q2187 : (Jvm.Cond.constantLong "TallySlateModel" (11 : Nat) (107681 : Int64)) ∈ lw_all := lw_g (lw_at lw_m9 105 rfl) rfl
theorem q2188 : (Jvm.Cond.constantLong "TallySlateModel" (13 : Nat) (12387497 : Int64)) ∈ lw_all := lw_g (lw_at lw_m9 106 rfl) rfl
theorem q2189 : (Jvm.Cond.constantLong "TallySlateModel" (15 : Nat) (4797 : Int64)) ∈ lw_all := lw_g (lw_at lw_m9 107 rfl) rfl
theorem q2190 : (Jvm.Cond.constantLong "TallySlateModel" (17 : Nat) (257 : Int64)) ∈ lw_all := lw_g (lw_at lw_m9 108 rfl) rfl
theorem q2191 : (Jvm.Cond.constantLong "TallySlateModel" (19 : Nat) (13903 : Int64)) ∈ lw_all := lw_g (lw_at lw_m9 109 rfl) rfl
theorem q2192 : (Jvm.Cond.constantLong "TallySlateModel" (21 : Nat) (261347000 : Int64)) ∈ lw_all := lw_g (lw_at lw_m9 110 rfl) rfl
theorem q2193 : (Jvm.Cond.constantLong "TallySlateModel" (23 : Nat) (9592700 : Int64)) ∈ lw_all := lw_g (lw_at lw_m9 111 rfl) rfl
theorem q2194 : (Jvm.Cond.constantLong "TallySlateModel" (25 : Nat) (15091 : Int64)) ∈ lw_all := lw_g (lw_at lw_m9 112 rfl) rfl
theorem q2195 : (Jvm.Cond.constantLong "TallySlateModel" (27 : Nat) (419 : Int64)) ∈ lw_all := lw_g (lw_at lw_m9 113 rfl) rfl
theorem q2196 : (Jvm.Cond.constantLong "TallySlateModel" (29 : Nat) (13550 : Int64)) ∈ lw_all := lw_g (lw_at lw_m9 114 rfl) rfl
theorem q2197 : (Jvm.Cond.constantLong "TallySlateModel" (31 : Nat) (188623 : Int64)) ∈ lw_all := lw_g (lw_at lw_m9 115 rfl) rfl
theorem q2198 : (Jvm.Cond.constantLong "TallySlateModel" (33 : Nat) (315749 : Int64)) ∈ lw_all := lw_g (lw_at lw_m9 116 rfl) rfl
theorem q2199 : (Jvm.Cond.constantLong "TallySlateModel" (35 : Nat) (151150 : Int64)) ∈ lw_all := lw_g (lw_at lw_m9 117 rfl) rfl
theorem q2200 : (Jvm.Cond.constantLong "TallySlateModel" (37 : Nat) (365869 : Int64)) ∈ lw_all := lw_g (lw_at lw_m9 118 rfl) rfl
theorem q2201 : (Jvm.Cond.constantLong "TallySlateModel" (39 : Nat) (1887 : Int64)) ∈ lw_all := lw_g (lw_at lw_m9 119 rfl) rfl
theorem q2202 : (Jvm.Cond.constantLong "TallySlateModel" (41 : Nat) (381245 : Int64)) ∈ lw_all := lw_g (lw_at lw_m9 120 rfl) rfl
theorem q2203 : (Jvm.Cond.constantLong "TallySlateModel" (43 : Nat) (334901377 : Int64)) ∈ lw_all := lw_g (lw_at lw_m9 121 rfl) rfl
theorem q2204 : (Jvm.Cond.constantLong "TallySlateModel" (45 : Nat) (223456 : Int64)) ∈ lw_all := lw_g (lw_at lw_m9 122 rfl) rfl
theorem q2205 : (Jvm.Cond.constantLong "TallySlateModel" (47 : Nat) (14431 : Int64)) ∈ lw_all := lw_g (lw_at lw_m9 123 rfl) rfl
theorem q2206 : (Jvm.Cond.constantLong "TallySlateModel" (49 : Nat) (9528 : Int64)) ∈ lw_all := lw_g (lw_at lw_m9 124 rfl) rfl
theorem q2207 : (Jvm.Cond.constantLong "TallySlateModel" (51 : Nat) (9734 : Int64)) ∈ lw_all := lw_g (lw_at lw_m9 125 rfl) rfl
theorem q2208 : (Jvm.Cond.constantLong "TallySlateModel" (53 : Nat) (376205 : Int64)) ∈ lw_all := lw_g (lw_at lw_m9 126 rfl) rfl
theorem q2209 : (Jvm.Cond.constantLong "TallySlateModel" (55 : Nat) (385418 : Int64)) ∈ lw_all := lw_g (lw_at lw_m9 127 rfl) rfl
theorem q2210 : (Jvm.Cond.constantLong "TallySlateModel" (57 : Nat) (4075223 : Int64)) ∈ lw_all := lw_g (lw_at lw_m9 128 rfl) rfl
theorem q2211 : (Jvm.Cond.constantLong "TallySlateModel" (59 : Nat) (40187 : Int64)) ∈ lw_all := lw_g (lw_at lw_m9 129 rfl) rfl
theorem q2212 : (Jvm.Cond.constantLong "TallySlateModel" (61 : Nat) (126893 : Int64)) ∈ lw_all := lw_g (lw_at lw_m9 130 rfl) rfl
theorem q2213 : (Jvm.Cond.constantLong "TallySlateModel" (63 : Nat) (409469 : Int64)) ∈ lw_all := lw_g (lw_at lw_m9 131 rfl) rfl
theorem q2214 : (Jvm.Cond.constantLong "TallySlateModel" (65 : Nat) (4085899 : Int64)) ∈ lw_all := lw_g (lw_at lw_m9 132 rfl) rfl
theorem q2215 : (Jvm.Cond.constantLong "TallySlateModel" (67 : Nat) (208022 : Int64)) ∈ lw_all := lw_g (lw_at lw_m9 133 rfl) rfl
theorem q2216 : (Jvm.Cond.constantLong "TallySlateModel" (69 : Nat) (394691 : Int64)) ∈ lw_all := lw_g (lw_at lw_m9 134 rfl) rfl
theorem q2217 : (Jvm.Cond.constantLong "TallySlateModel" (71 : Nat) (92275 : Int64)) ∈ lw_all := lw_g (lw_at lw_m9 135 rfl) rfl
theorem q2218 : (Jvm.Cond.constantLong "TallySlateModel" (73 : Nat) (2774 : Int64)) ∈ lw_all := lw_g (lw_at lw_m9 136 rfl) rfl
theorem q2219 : (Jvm.Cond.constantLong "TallySlateModel" (75 : Nat) (321581 : Int64)) ∈ lw_all := lw_g (lw_at lw_m9 137 rfl) rfl
theorem q2220 : (Jvm.Cond.constantLong "TallySlateModel" (77 : Nat) (125041 : Int64)) ∈ lw_all := lw_g (lw_at lw_m9 138 rfl) rfl
theorem q2221 : (Jvm.Cond.constantLong "TallySlateModel" (79 : Nat) (11695 : Int64)) ∈ lw_all := lw_g (lw_at lw_m9 139 rfl) rfl
theorem q2222 : (Jvm.Cond.constantLong "TallySlateModel" (81 : Nat) (8399691 : Int64)) ∈ lw_all := lw_g (lw_at lw_m9 140 rfl) rfl
theorem q2223 : (Jvm.Cond.constantLong "TallySlateModel" (83 : Nat) (375062 : Int64)) ∈ lw_all := lw_g (lw_at lw_m9 141 rfl) rfl
theorem q2224 : (Jvm.Cond.constantLong "TallySlateModel" (85 : Nat) (99233 : Int64)) ∈ lw_all := lw_g (lw_at lw_m9 142 rfl) rfl
theorem q2225 : (Jvm.Cond.constantLong "TallySlateModel" (87 : Nat) (129361 : Int64)) ∈ lw_all := lw_g (lw_at lw_m9 143 rfl) rfl
theorem q2226 : (Jvm.Cond.constant "TallySlateModel" (182 : Nat) (166300 : Int32)) ∈ lw_all := lw_g (lw_at lw_m9 144 rfl) rfl
theorem q2227 : (Jvm.Cond.fieldLink "TallySlateModel" (89 : Nat) "TallySlateModel" "words" "[J") ∈ lw_all := lw_g (lw_at lw_m9 145 rfl) rfl
theorem q2228 : (Jvm.Cond.fieldLink "TallySlateModel" (95 : Nat) "TallySlateModel" "wants" "[I") ∈ lw_all := lw_g (lw_at lw_m9 146 rfl) rfl
theorem q2229 : (Jvm.Cond.fieldLink "TallySlateModel" (99 : Nat) "TallySlateModel" "tape" "[B") ∈ lw_all := lw_g (lw_at lw_m9 147 rfl) rfl
theorem q2230 : (Jvm.Cond.fieldLink "TallySlateModel" (252 : Nat) "TallySlateModel" "taped" "I") ∈ lw_all := lw_g (lw_at lw_m9 148 rfl) rfl
theorem q2231 : (Jvm.Cond.fieldLink "TallySlateModel" (259 : Nat) "TallySlateModel" "length" "I") ∈ lw_all := lw_g (lw_at lw_m9 149 rfl) rfl
theorem q2232 : (Jvm.Cond.fieldLink "TallySlateModel" (276 : Nat) "TallySlateModel" "kind" "I") ∈ lw_all := lw_g (lw_at lw_m9 150 rfl) rfl
theorem q2233 : (Jvm.Cond.fieldLink "TallySlateModel" (269 : Nat) "TallySlateModel" "at" "I") ∈ lw_all := lw_g (lw_at lw_m9 151 rfl) rfl
theorem q2234 : (Jvm.Cond.fieldLink "TallySlateModel" (272 : Nat) "TallySlateModel" "value" "J") ∈ lw_all := lw_g (lw_at lw_m9 152 rfl) rfl
theorem q2235 : (Jvm.Cond.fieldLink "TallySlateModel" (299 : Nat) "TallySlateModel" "behind" "I") ∈ lw_all := lw_g (lw_at lw_m9 153 rfl) rfl
theorem q2236 : (Jvm.Cond.fieldLink "TallySlateModel" (311 : Nat) "TallySlateModel" "fault" "I") ∈ lw_all := lw_g (lw_at lw_m9 154 rfl) rfl
theorem q2237 : (Jvm.Cond.fieldLink "TallySlateModel" (314 : Nat) "TallySlateModel" "place" "I") ∈ lw_all := lw_g (lw_at lw_m9 155 rfl) rfl
theorem q2238 : (Jvm.Cond.fieldLink "TallySlateModel" (328 : Nat) "TallySlateModel" "open" "I") ∈ lw_all := lw_g (lw_at lw_m9 156 rfl) rfl
theorem q2239 : (Jvm.Cond.fieldLink "TallySlateModel" (340 : Nat) "TallySlateModel" "half" "I") ∈ lw_all := lw_g (lw_at lw_m9 157 rfl) rfl
theorem q2240 : (Jvm.Cond.fieldLink "TallySlateModel" (457 : Nat) "TallySlateModel" "has" "Z") ∈ lw_all := lw_g (lw_at lw_m9 158 rfl) rfl
theorem q2241 : (Jvm.Cond.fieldLink "TallySlateModel" (454 : Nat) "TallySlateModel" "functions" "I") ∈ lw_all := lw_g (lw_at lw_m9 159 rfl) rfl
theorem q2242 : (Jvm.Cond.fieldLink "TallySlateModel" (380 : Nat) "TallySlateModel" "many" "I") ∈ lw_all := lw_g (lw_at lw_m9 160 rfl) rfl
theorem q2243 : (Jvm.Cond.fieldLink "TallySlateModel" (103 : Nat) "TallySlateModel" "fName" "[J") ∈ lw_all := lw_g (lw_at lw_m9 161 rfl) rfl
theorem q2244 : (Jvm.Cond.fieldLink "TallySlateModel" (106 : Nat) "TallySlateModel" "fAt" "[I") ∈ lw_all := lw_g (lw_at lw_m9 162 rfl) rfl
theorem q2245 : (Jvm.Cond.fieldLink "TallySlateModel" (109 : Nat) "TallySlateModel" "fPars" "[I") ∈ lw_all := lw_g (lw_at lw_m9 163 rfl) rfl
theorem q2246 : (Jvm.Cond.fieldLink "TallySlateModel" (112 : Nat) "TallySlateModel" "fVars" "[I") ∈ lw_all := lw_g (lw_at lw_m9 164 rfl) rfl
theorem q2247 : (Jvm.Cond.fieldLink "TallySlateModel" (115 : Nat) "TallySlateModel" "fFrom" "[I") ∈ lw_all := lw_g (lw_at lw_m9 165 rfl) rfl
theorem q2248 : (Jvm.Cond.fieldLink "TallySlateModel" (118 : Nat) "TallySlateModel" "vName" "[J") ∈ lw_all := lw_g (lw_at lw_m9 166 rfl) rfl
theorem q2249 : (Jvm.Cond.fieldLink "TallySlateModel" (359 : Nat) "TallySlateModel" "vars" "I") ∈ lw_all := lw_g (lw_at lw_m9 167 rfl) rfl
theorem q2250 : (Jvm.Cond.fieldLink "TallySlateModel" (121 : Nat) "TallySlateModel" "op" "[I") ∈ lw_all := lw_g (lw_at lw_m9 168 rfl) rfl
theorem q2251 : (Jvm.Cond.fieldLink "TallySlateModel" (124 : Nat) "TallySlateModel" "oa" "[I") ∈ lw_all := lw_g (lw_at lw_m9 169 rfl) rfl
theorem q2252 : (Jvm.Cond.fieldLink "TallySlateModel" (127 : Nat) "TallySlateModel" "ob" "[I") ∈ lw_all := lw_g (lw_at lw_m9 170 rfl) rfl
theorem q2253 : (Jvm.Cond.fieldLink "TallySlateModel" (130 : Nat) "TallySlateModel" "oc" "[I") ∈ lw_all := lw_g (lw_at lw_m9 171 rfl) rfl
theorem q2254 : (Jvm.Cond.fieldLink "TallySlateModel" (133 : Nat) "TallySlateModel" "op1" "[I") ∈ lw_all := lw_g (lw_at lw_m9 172 rfl) rfl
theorem q2255 : (Jvm.Cond.fieldLink "TallySlateModel" (343 : Nat) "TallySlateModel" "orders" "I") ∈ lw_all := lw_g (lw_at lw_m9 173 rfl) rfl
theorem q2256 : (Jvm.Cond.fieldLink "TallySlateModel" (346 : Nat) "TallySlateModel" "calls" "I") ∈ lw_all := lw_g (lw_at lw_m9 174 rfl) rfl
theorem q2257 : (Jvm.Cond.fieldLink "TallySlateModel" (136 : Nat) "TallySlateModel" "cOrder" "[I") ∈ lw_all := lw_g (lw_at lw_m9 175 rfl) rfl
theorem q2258 : (Jvm.Cond.fieldLink "TallySlateModel" (139 : Nat) "TallySlateModel" "cAt" "[I") ∈ lw_all := lw_g (lw_at lw_m9 176 rfl) rfl
theorem q2259 : (Jvm.Cond.fieldLink "TallySlateModel" (142 : Nat) "TallySlateModel" "cMany" "[I") ∈ lw_all := lw_g (lw_at lw_m9 177 rfl) rfl
theorem q2260 : (Jvm.Cond.fieldLink "TallySlateModel" (145 : Nat) "TallySlateModel" "cName" "[J") ∈ lw_all := lw_g (lw_at lw_m9 178 rfl) rfl
theorem q2261 : (Jvm.Cond.fieldLink "TallySlateModel" (148 : Nat) "TallySlateModel" "bKind" "[I") ∈ lw_all := lw_g (lw_at lw_m9 179 rfl) rfl
theorem q2262 : (Jvm.Cond.fieldLink "TallySlateModel" (151 : Nat) "TallySlateModel" "bOrder" "[I") ∈ lw_all := lw_g (lw_at lw_m9 180 rfl) rfl
theorem q2263 : (Jvm.Cond.fieldLink "TallySlateModel" (154 : Nat) "TallySlateModel" "bTop" "[I") ∈ lw_all := lw_g (lw_at lw_m9 181 rfl) rfl
theorem q2264 : (Jvm.Cond.fieldLink "TallySlateModel" (362 : Nat) "TallySlateModel" "blocks" "I") ∈ lw_all := lw_g (lw_at lw_m9 182 rfl) rfl
theorem q2265 : (Jvm.Cond.fieldLink "TallySlateModel" (157 : Nat) "TallySlateModel" "xKind" "[I") ∈ lw_all := lw_g (lw_at lw_m9 183 rfl) rfl
theorem q2266 : (Jvm.Cond.fieldLink "TallySlateModel" (160 : Nat) "TallySlateModel" "xa" "[I") ∈ lw_all := lw_g (lw_at lw_m9 184 rfl) rfl
theorem q2267 : (Jvm.Cond.fieldLink "TallySlateModel" (163 : Nat) "TallySlateModel" "xn" "[I") ∈ lw_all := lw_g (lw_at lw_m9 185 rfl) rfl
theorem q2268 : (Jvm.Cond.fieldLink "TallySlateModel" (166 : Nat) "TallySlateModel" "xAt" "[I") ∈ lw_all := lw_g (lw_at lw_m9 186 rfl) rfl
theorem q2269 : (Jvm.Cond.fieldLink "TallySlateModel" (169 : Nat) "TallySlateModel" "xName" "[J") ∈ lw_all := lw_g (lw_at lw_m9 187 rfl) rfl
theorem q2270 : (Jvm.Cond.fieldLink "TallySlateModel" (172 : Nat) "TallySlateModel" "xNameAt" "[I") ∈ lw_all := lw_g (lw_at lw_m9 188 rfl) rfl
theorem q2271 : (Jvm.Cond.fieldLink "TallySlateModel" (413 : Nat) "TallySlateModel" "waits" "I") ∈ lw_all := lw_g (lw_at lw_m9 189 rfl) rfl
theorem q2272 : (Jvm.Cond.fieldLink "TallySlateModel" (175 : Nat) "TallySlateModel" "loadKind" "I") ∈ lw_all := lw_g (lw_at lw_m9 190 rfl) rfl
theorem q2273 : (Jvm.Cond.fieldLink "TallySlateModel" (179 : Nat) "TallySlateModel" "loadAt" "I") ∈ lw_all := lw_g (lw_at lw_m9 191 rfl) rfl
theorem q2274 : (Jvm.Cond.fieldLink "TallySlateModel" (183 : Nat) "TallySlateModel" "h" "[I") ∈ lw_all := lw_g (lw_at lw_m9 192 rfl) rfl
theorem q2275 : (Jvm.Cond.fieldLink "TallySlateModel" (519 : Nat) "TallySlateModel" "free" "I") ∈ lw_all := lw_g (lw_at lw_m9 193 rfl) rfl
theorem q2276 : (Jvm.Cond.fieldLink "TallySlateModel" (186 : Nat) "TallySlateModel" "sk" "[I") ∈ lw_all := lw_g (lw_at lw_m9 194 rfl) rfl
theorem q2277 : (Jvm.Cond.fieldLink "TallySlateModel" (189 : Nat) "TallySlateModel" "sv" "[I") ∈ lw_all := lw_g (lw_at lw_m9 195 rfl) rfl
theorem q2278 : (Jvm.Cond.fieldLink "TallySlateModel" (461 : Nat) "TallySlateModel" "sp" "I") ∈ lw_all := lw_g (lw_at lw_m9 196 rfl) rfl
theorem q2279 : (Jvm.Cond.fieldLink "TallySlateModel" (192 : Nat) "TallySlateModel" "gone" "[I") ∈ lw_all := lw_g (lw_at lw_m9 197 rfl) rfl
theorem q2280 : (Jvm.Cond.fieldLink "TallySlateModel" (195 : Nat) "TallySlateModel" "goneBeside" "[I") ∈ lw_all := lw_g (lw_at lw_m9 198 rfl) rfl
theorem q2281 : (Jvm.Cond.fieldLink "TallySlateModel" (198 : Nat) "TallySlateModel" "nextIn" "[I") ∈ lw_all := lw_g (lw_at lw_m9 199 rfl) rfl
theorem q2282 : (Jvm.Cond.fieldLink "TallySlateModel" (474 : Nat) "TallySlateModel" "deepIn" "I") ∈ lw_all := lw_g (lw_at lw_m9 200 rfl) rfl
theorem q2283 : (Jvm.Cond.fieldLink "TallySlateModel" (480 : Nat) "TallySlateModel" "depth" "I") ∈ lw_all := lw_g (lw_at lw_m9 201 rfl) rfl
theorem q2284 : (Jvm.Cond.fieldLink "TallySlateModel" (486 : Nat) "TallySlateModel" "bulk" "I") ∈ lw_all := lw_g (lw_at lw_m9 202 rfl) rfl
theorem q2285 : (Jvm.Cond.fieldLink "TallySlateModel" (201 : Nat) "TallySlateModel" "layFrom" "[I") ∈ lw_all := lw_g (lw_at lw_m9 203 rfl) rfl
theorem q2286 : (Jvm.Cond.fieldLink "TallySlateModel" (204 : Nat) "TallySlateModel" "layTo" "[I") ∈ lw_all := lw_g (lw_at lw_m9 204 rfl) rfl
theorem q2287 : (Jvm.Cond.fieldLink "TallySlateModel" (501 : Nat) "TallySlateModel" "steps" "I") ∈ lw_all := lw_g (lw_at lw_m9 205 rfl) rfl
theorem q2288 : (Jvm.Cond.fieldLink "TallySlateModel" (504 : Nat) "TallySlateModel" "fuel" "I") ∈ lw_all := lw_g (lw_at lw_m9 206 rfl) rfl
theorem q2289 : (Jvm.Cond.fieldLink "TallySlateModel" (513 : Nat) "TallySlateModel" "made" "I") ∈ lw_all := lw_g (lw_at lw_m9 207 rfl) rfl
theorem q2290 : (Jvm.Cond.fieldLink "TallySlateModel" (537 : Nat) "TallySlateModel" "deepest" "I") ∈ lw_all := lw_g (lw_at lw_m9 208 rfl) rfl
theorem q2291 : (Jvm.Cond.fieldLink "TallySlateModel" (546 : Nat) "TallySlateModel" "taken" "I") ∈ lw_all := lw_g (lw_at lw_m9 209 rfl) rfl
theorem q2292 : (Jvm.Cond.fieldLink "TallySlateModel" (543 : Nat) "TallySlateModel" "raised" "I") ∈ lw_all := lw_g (lw_at lw_m9 210 rfl) rfl
theorem q2293 : (Jvm.Cond.fieldLink "TallySlateModel" (498 : Nat) "TallySlateModel" "tKind" "I") ∈ lw_all := lw_g (lw_at lw_m9 211 rfl) rfl
theorem q2294 : (Jvm.Cond.fieldLink "TallySlateModel" (207 : Nat) "TallySlateModel" "tPlace" "I") ∈ lw_all := lw_g (lw_at lw_m9 212 rfl) rfl
theorem q2295 : (Jvm.Cond.fieldLink "TallySlateModel" (552 : Nat) "TallySlateModel" "ran" "Z") ∈ lw_all := lw_g (lw_at lw_m9 213 rfl) rfl
theorem q2296 : (Jvm.Cond.fieldLink "TallySlateModel" (540 : Nat) "TallySlateModel" "pc" "I") ∈ lw_all := lw_g (lw_at lw_m9 214 rfl) rfl
theorem q2297 : (Jvm.Cond.fieldLink "TallySlateModel" (507 : Nat) "TallySlateModel" "spot" "I") ∈ lw_all := lw_g (lw_at lw_m9 215 rfl) rfl
theorem q2298 : (Jvm.Cond.fieldLink "TallySlateModel" (210 : Nat) "TallySlateModel" "shk" "[I") ∈ lw_all := lw_g (lw_at lw_m9 216 rfl) rfl
theorem q2299 : (Jvm.Cond.fieldLink "TallySlateModel" (213 : Nat) "TallySlateModel" "shv" "[I") ∈ lw_all := lw_g (lw_at lw_m9 217 rfl) rfl
theorem q2300 : (Jvm.Cond.fieldLink "TallySlateModel" (531 : Nat) "TallySlateModel" "deep" "I") ∈ lw_all := lw_g (lw_at lw_m9 218 rfl) rfl
theorem q2301 : (Jvm.Cond.fieldLink "TallySlateModel" (216 : Nat) "TallySlateModel" "frBase" "[I") ∈ lw_all := lw_g (lw_at lw_m9 219 rfl) rfl
theorem q2302 : (Jvm.Cond.fieldLink "TallySlateModel" (219 : Nat) "TallySlateModel" "frBack" "[I") ∈ lw_all := lw_g (lw_at lw_m9 220 rfl) rfl
theorem q2303 : (Jvm.Cond.fieldLink "TallySlateModel" (222 : Nat) "TallySlateModel" "frWays" "[I") ∈ lw_all := lw_g (lw_at lw_m9 221 rfl) rfl
theorem q2304 : (Jvm.Cond.fieldLink "TallySlateModel" (225 : Nat) "TallySlateModel" "vk" "[I") ∈ lw_all := lw_g (lw_at lw_m9 222 rfl) rfl
theorem q2305 : (Jvm.Cond.fieldLink "TallySlateModel" (228 : Nat) "TallySlateModel" "vv" "[I") ∈ lw_all := lw_g (lw_at lw_m9 223 rfl) rfl
theorem q2306 : (Jvm.Cond.fieldLink "TallySlateModel" (534 : Nat) "TallySlateModel" "ways" "I") ∈ lw_all := lw_g (lw_at lw_m9 224 rfl) rfl
theorem q2307 : (Jvm.Cond.fieldLink "TallySlateModel" (231 : Nat) "TallySlateModel" "wKind" "[I") ∈ lw_all := lw_g (lw_at lw_m9 225 rfl) rfl
theorem q2308 : (Jvm.Cond.fieldLink "TallySlateModel" (234 : Nat) "TallySlateModel" "wa" "[I") ∈ lw_all := lw_g (lw_at lw_m9 226 rfl) rfl
theorem q2309 : (Jvm.Cond.fieldLink "TallySlateModel" (237 : Nat) "TallySlateModel" "wb" "[I") ∈ lw_all := lw_g (lw_at lw_m9 227 rfl) rfl
theorem q2310 : (Jvm.Cond.fieldLink "TallySlateModel" (240 : Nat) "TallySlateModel" "wc" "[I") ∈ lw_all := lw_g (lw_at lw_m9 228 rfl) rfl
theorem q2311 : (Jvm.Cond.fieldLink "TallySlateModel" (243 : Nat) "TallySlateModel" "wd" "[I") ∈ lw_all := lw_g (lw_at lw_m9 229 rfl) rfl
theorem q2312 : (Jvm.Cond.fieldLink "TallySlateModel" (246 : Nat) "TallySlateModel" "we" "[I") ∈ lw_all := lw_g (lw_at lw_m9 230 rfl) rfl
theorem q2313 : (Jvm.Cond.fieldLink "TallySlateModel" (249 : Nat) "TallySlateModel" "out" "[B") ∈ lw_all := lw_g (lw_at lw_m9 231 rfl) rfl
theorem q2314 : (Jvm.Cond.fieldLink "TallySlateModel" (555 : Nat) "TallySlateModel" "outs" "I") ∈ lw_all := lw_g (lw_at lw_m9 232 rfl) rfl
theorem q2315 : (Jvm.Cond.fieldLink "TallySlateModel" (730 : Nat) "TallySlateModel" "marks" "I") ∈ lw_all := lw_g (lw_at lw_m9 233 rfl) rfl
theorem q2316 : (Jvm.Cond.fieldLink "TallySlateModel" (733 : Nat) "TallySlateModel" "sum" "J") ∈ lw_all := lw_g (lw_at lw_m9 234 rfl) rfl
theorem q2497 : (Jvm.Cond.superclass "TallySlateModel" "java/lang/Object") ∈ lw_all := lw_g (lw_at lw_m10 175 rfl) rfl
theorem q2499 : (Jvm.Cond.instanceMethod ({ cls := "TallySlateModel", name := "feed", desc := "(IIIII)I" } : Jvm.MethodName)) ∈ lw_all := lw_g (lw_at lw_m10 177 rfl) rfl
theorem q2500 : (Jvm.Cond.selects "TallySlateModel" ({ cls := "TallySlateModel", name := "feed", desc := "(IIIII)I" } : Jvm.MethodName) ({ cls := "TallySlateModel", name := "feed", desc := "(IIIII)I" } : Jvm.MethodName)) ∈ lw_all := lw_g (lw_at lw_m10 178 rfl) rfl
theorem q2501 : (Jvm.Cond.code ({ cls := "TallySlateModel", name := "feed", desc := "(IIIII)I" } : Jvm.MethodName) prog_37_method_3_code (6 : Nat) (Option.some Jvm.ClassFile.FieldType.int)) ∈ lw_all := lw_g (lw_at lw_m10 179 rfl) rfl
theorem q2502 : (Jvm.Cond.methodLink "TallySlateModel" (255 : Nat) ({ cls := "TallySlateModel", name := "four", desc := "(I)V" } : Jvm.MethodName)) ∈ lw_all := lw_g (lw_at lw_m10 180 rfl) rfl
theorem q2504 : (Jvm.Cond.instanceMethod ({ cls := "TallySlateModel", name := "four", desc := "(I)V" } : Jvm.MethodName)) ∈ lw_all := lw_g (lw_at lw_m10 182 rfl) rfl
theorem q2505 : (Jvm.Cond.code ({ cls := "TallySlateModel", name := "four", desc := "(I)V" } : Jvm.MethodName) prog_37_method_2_code (3 : Nat) (Option.none : Option Jvm.ClassFile.FieldType)) ∈ lw_all := lw_g (lw_at lw_m10 183 rfl) rfl
theorem q2507 : (Jvm.Cond.instanceMethod ({ cls := "TallySlateModel", name := "load", desc := "(I)I" } : Jvm.MethodName)) ∈ lw_all := lw_g (lw_at lw_m10 185 rfl) rfl
theorem q2508 : (Jvm.Cond.selects "TallySlateModel" ({ cls := "TallySlateModel", name := "load", desc := "(I)I" } : Jvm.MethodName) ({ cls := "TallySlateModel", name := "load", desc := "(I)I" } : Jvm.MethodName)) ∈ lw_all := lw_g (lw_at lw_m10 186 rfl) rfl
theorem q2509 : (Jvm.Cond.code ({ cls := "TallySlateModel", name := "load", desc := "(I)I" } : Jvm.MethodName) prog_37_method_44_code (2 : Nat) (Option.some Jvm.ClassFile.FieldType.int)) ∈ lw_all := lw_g (lw_at lw_m10 187 rfl) rfl
theorem q2510 : (Jvm.Cond.methodLink "TallySlateModel" (317 : Nat) ({ cls := "TallySlateModel", name := "breaks", desc := "(II)V" } : Jvm.MethodName)) ∈ lw_all := lw_g (lw_at lw_m10 188 rfl) rfl
theorem q2512 : (Jvm.Cond.instanceMethod ({ cls := "TallySlateModel", name := "breaks", desc := "(II)V" } : Jvm.MethodName)) ∈ lw_all := lw_g (lw_at lw_m10 190 rfl) rfl
theorem q2513 : (Jvm.Cond.code ({ cls := "TallySlateModel", name := "breaks", desc := "(II)V" } : Jvm.MethodName) prog_37_method_11_code (3 : Nat) (Option.none : Option Jvm.ClassFile.FieldType)) ∈ lw_all := lw_g (lw_at lw_m10 191 rfl) rfl
theorem q2514 : (Jvm.Cond.methodLink "TallySlateModel" (308 : Nat) ({ cls := "TallySlateModel", name := "token", desc := "(I)V" } : Jvm.MethodName)) ∈ lw_all := lw_g (lw_at lw_m10 192 rfl) rfl
theorem q2516 : (Jvm.Cond.instanceMethod ({ cls := "TallySlateModel", name := "token", desc := "(I)V" } : Jvm.MethodName)) ∈ lw_all := lw_g (lw_at lw_m10 194 rfl) rfl
theorem q2517 : (Jvm.Cond.code ({ cls := "TallySlateModel", name := "token", desc := "(I)V" } : Jvm.MethodName) prog_37_method_8_code (4 : Nat) (Option.none : Option Jvm.ClassFile.FieldType)) ∈ lw_all := lw_g (lw_at lw_m10 195 rfl) rfl
theorem q2518 : (Jvm.Cond.methodLink "TallySlateModel" (266 : Nat) ({ cls := "TallySlateModel", name := "begin", desc := "(I)I" } : Jvm.MethodName)) ∈ lw_all := lw_g (lw_at lw_m10 196 rfl) rfl
theorem q2520 : (Jvm.Cond.instanceMethod ({ cls := "TallySlateModel", name := "begin", desc := "(I)I" } : Jvm.MethodName)) ∈ lw_all := lw_g (lw_at lw_m10 198 rfl) rfl
theorem q2521 : (Jvm.Cond.code ({ cls := "TallySlateModel", name := "begin", desc := "(I)I" } : Jvm.MethodName) prog_37_method_7_code (5 : Nat) (Option.some Jvm.ClassFile.FieldType.int)) ∈ lw_all := lw_g (lw_at lw_m10 199 rfl) rfl
theorem q2522 : (Jvm.Cond.methodLink "TallySlateModel" (262 : Nat) ({ cls := "TallySlateModel", name := "byteAt", desc := "(I)I" } : Jvm.MethodName)) ∈ lw_all := lw_g (lw_at lw_m10 200 rfl) rfl
theorem q2524 : (Jvm.Cond.instanceMethod ({ cls := "TallySlateModel", name := "byteAt", desc := "(I)I" } : Jvm.MethodName)) ∈ lw_all := lw_g (lw_at lw_m10 202 rfl) rfl
theorem q2525 : (Jvm.Cond.code ({ cls := "TallySlateModel", name := "byteAt", desc := "(I)I" } : Jvm.MethodName) prog_37_method_4_code (2 : Nat) (Option.some Jvm.ClassFile.FieldType.int)) ∈ lw_all := lw_g (lw_at lw_m10 203 rfl) rfl
theorem q2526 : (Jvm.Cond.methodLink "TallySlateModel" (279 : Nat) ({ cls := "TallySlateModel", name := "isLetter", desc := "(I)Z" } : Jvm.MethodName)) ∈ lw_all := lw_g (lw_at lw_m10 204 rfl) rfl
theorem q2527 : (Jvm.Cond.static ({ cls := "TallySlateModel", name := "isLetter", desc := "(I)Z" } : Jvm.MethodName)) ∈ lw_all := lw_g (lw_at lw_m10 205 rfl) rfl
theorem q2528 : (Jvm.Cond.code ({ cls := "TallySlateModel", name := "isLetter", desc := "(I)Z" } : Jvm.MethodName) prog_37_method_5_code (1 : Nat) (Option.some Jvm.ClassFile.FieldType.boolean)) ∈ lw_all := lw_g (lw_at lw_m10 206 rfl) rfl
theorem q2529 : (Jvm.Cond.constantLong "TallySlateModel" (283 : Nat) (27 : Int64)) ∈ lw_all := lw_g (lw_at lw_m10 207 rfl) rfl
theorem q2530 : (Jvm.Cond.constantLong "TallySlateModel" (285 : Nat) (96 : Int64)) ∈ lw_all := lw_g (lw_at lw_m10 208 rfl) rfl
theorem q2531 : (Jvm.Cond.methodLink "TallySlateModel" (287 : Nat) ({ cls := "TallySlateModel", name := "isDigit", desc := "(I)Z" } : Jvm.MethodName)) ∈ lw_all := lw_g (lw_at lw_m10 209 rfl) rfl
theorem q2532 : (Jvm.Cond.static ({ cls := "TallySlateModel", name := "isDigit", desc := "(I)Z" } : Jvm.MethodName)) ∈ lw_all := lw_g (lw_at lw_m10 210 rfl) rfl
theorem q2533 : (Jvm.Cond.code ({ cls := "TallySlateModel", name := "isDigit", desc := "(I)Z" } : Jvm.MethodName) prog_37_method_6_code (1 : Nat) (Option.some Jvm.ClassFile.FieldType.boolean)) ∈ lw_all := lw_g (lw_at lw_m10 211 rfl) rfl
theorem q2534 : (Jvm.Cond.constantLong "TallySlateModel" (290 : Nat) (10 : Int64)) ∈ lw_all := lw_g (lw_at lw_m10 212 rfl) rfl
theorem q2535 : (Jvm.Cond.constantLong "TallySlateModel" (292 : Nat) (48 : Int64)) ∈ lw_all := lw_g (lw_at lw_m10 213 rfl) rfl
theorem q2536 : (Jvm.Cond.constantLong "TallySlateModel" (294 : Nat) (2147483647 : Int64)) ∈ lw_all := lw_g (lw_at lw_m10 214 rfl) rfl
theorem q2537 : (Jvm.Cond.methodLink "TallySlateModel" (296 : Nat) ({ cls := "TallySlateModel", name := "signAt", desc := "(I)I" } : Jvm.MethodName)) ∈ lw_all := lw_g (lw_at lw_m10 215 rfl) rfl
theorem q2539 : (Jvm.Cond.instanceMethod ({ cls := "TallySlateModel", name := "signAt", desc := "(I)I" } : Jvm.MethodName)) ∈ lw_all := lw_g (lw_at lw_m10 217 rfl) rfl
theorem q2540 : (Jvm.Cond.code ({ cls := "TallySlateModel", name := "signAt", desc := "(I)I" } : Jvm.MethodName) prog_37_method_9_code (4 : Nat) (Option.some Jvm.ClassFile.FieldType.int)) ∈ lw_all := lw_g (lw_at lw_m10 218 rfl) rfl
theorem q2541 : (Jvm.Cond.constantLong "TallySlateModel" (302 : Nat) (256 : Int64)) ∈ lw_all := lw_g (lw_at lw_m10 219 rfl) rfl
theorem q2542 : (Jvm.Cond.constantLong "TallySlateModel" (304 : Nat) (258 : Int64)) ∈ lw_all := lw_g (lw_at lw_m10 220 rfl) rfl
theorem q2543 : (Jvm.Cond.constantLong "TallySlateModel" (306 : Nat) (259 : Int64)) ∈ lw_all := lw_g (lw_at lw_m10 221 rfl) rfl
theorem q2544 : (Jvm.Cond.methodLink "TallySlateModel" (448 : Nat) ({ cls := "TallySlateModel", name := "textOf", desc := "()V" } : Jvm.MethodName)) ∈ lw_all := lw_g (lw_at lw_m10 222 rfl) rfl
theorem q2546 : (Jvm.Cond.instanceMethod ({ cls := "TallySlateModel", name := "textOf", desc := "()V" } : Jvm.MethodName)) ∈ lw_all := lw_g (lw_at lw_m10 224 rfl) rfl
theorem q2547 : (Jvm.Cond.code ({ cls := "TallySlateModel", name := "textOf", desc := "()V" } : Jvm.MethodName) prog_37_method_26_code (1 : Nat) (Option.none : Option Jvm.ClassFile.FieldType)) ∈ lw_all := lw_g (lw_at lw_m10 225 rfl) rfl
theorem q2548 : (Jvm.Cond.methodLink "TallySlateModel" (365 : Nat) ({ cls := "TallySlateModel", name := "word", desc := "(I)V" } : Jvm.MethodName)) ∈ lw_all := lw_g (lw_at lw_m10 226 rfl) rfl
theorem q2550 : (Jvm.Cond.instanceMethod ({ cls := "TallySlateModel", name := "word", desc := "(I)V" } : Jvm.MethodName)) ∈ lw_all := lw_g (lw_at lw_m10 228 rfl) rfl
theorem q2551 : (Jvm.Cond.code ({ cls := "TallySlateModel", name := "word", desc := "(I)V" } : Jvm.MethodName) prog_37_method_19_code (2 : Nat) (Option.none : Option Jvm.ClassFile.FieldType)) ∈ lw_all := lw_g (lw_at lw_m10 229 rfl) rfl
theorem q2552 : (Jvm.Cond.methodLink "TallySlateModel" (337 : Nat) ({ cls := "TallySlateModel", name := "isWord", desc := "(I)Z" } : Jvm.MethodName)) ∈ lw_all := lw_g (lw_at lw_m10 230 rfl) rfl
theorem q2554 : (Jvm.Cond.instanceMethod ({ cls := "TallySlateModel", name := "isWord", desc := "(I)Z" } : Jvm.MethodName)) ∈ lw_all := lw_g (lw_at lw_m10 232 rfl) rfl
theorem q2555 : (Jvm.Cond.code ({ cls := "TallySlateModel", name := "isWord", desc := "(I)Z" } : Jvm.MethodName) prog_37_method_14_code (2 : Nat) (Option.some Jvm.ClassFile.FieldType.boolean)) ∈ lw_all := lw_g (lw_at lw_m10 233 rfl) rfl
theorem q2556 : (Jvm.Cond.methodLink "TallySlateModel" (331 : Nat) ({ cls := "TallySlateModel", name := "take", desc := "()V" } : Jvm.MethodName)) ∈ lw_all := lw_g (lw_at lw_m10 234 rfl) rfl
theorem q2558 : (Jvm.Cond.instanceMethod ({ cls := "TallySlateModel", name := "take", desc := "()V" } : Jvm.MethodName)) ∈ lw_all := lw_g (lw_at lw_m10 236 rfl) rfl
theorem q2559 : (Jvm.Cond.code ({ cls := "TallySlateModel", name := "take", desc := "()V" } : Jvm.MethodName) prog_37_method_10_code (1 : Nat) (Option.none : Option Jvm.ClassFile.FieldType)) ∈ lw_all := lw_g (lw_at lw_m10 237 rfl) rfl
theorem q2560 : (Jvm.Cond.methodLink "TallySlateModel" (334 : Nat) ({ cls := "TallySlateModel", name := "wrong", desc := "()V" } : Jvm.MethodName)) ∈ lw_all := lw_g (lw_at lw_m10 238 rfl) rfl
theorem q2562 : (Jvm.Cond.instanceMethod ({ cls := "TallySlateModel", name := "wrong", desc := "()V" } : Jvm.MethodName)) ∈ lw_all := lw_g (lw_at lw_m11 0 rfl) rfl
theorem q2563 : (Jvm.Cond.code ({ cls := "TallySlateModel", name := "wrong", desc := "()V" } : Jvm.MethodName) prog_37_method_12_code (1 : Nat) (Option.none : Option Jvm.ClassFile.FieldType)) ∈ lw_all := lw_g (lw_at lw_m11 1 rfl) rfl
theorem q2564 : (Jvm.Cond.methodLink "TallySlateModel" (368 : Nat) ({ cls := "TallySlateModel", name := "function", desc := "()V" } : Jvm.MethodName)) ∈ lw_all := lw_g (lw_at lw_m11 2 rfl) rfl
theorem q2566 : (Jvm.Cond.instanceMethod ({ cls := "TallySlateModel", name := "function", desc := "()V" } : Jvm.MethodName)) ∈ lw_all := lw_g (lw_at lw_m11 4 rfl) rfl
theorem q2567 : (Jvm.Cond.code ({ cls := "TallySlateModel", name := "function", desc := "()V" } : Jvm.MethodName) prog_37_method_28_code (4 : Nat) (Option.none : Option Jvm.ClassFile.FieldType)) ∈ lw_all := lw_g (lw_at lw_m11 5 rfl) rfl
theorem q2568 : (Jvm.Cond.methodLink "TallySlateModel" (351 : Nat) ({ cls := "TallySlateModel", name := "isName", desc := "()Z" } : Jvm.MethodName)) ∈ lw_all := lw_g (lw_at lw_m11 6 rfl) rfl
theorem q2570 : (Jvm.Cond.instanceMethod ({ cls := "TallySlateModel", name := "isName", desc := "()Z" } : Jvm.MethodName)) ∈ lw_all := lw_g (lw_at lw_m11 8 rfl) rfl
theorem q2571 : (Jvm.Cond.code ({ cls := "TallySlateModel", name := "isName", desc := "()Z" } : Jvm.MethodName) prog_37_method_16_code (1 : Nat) (Option.some Jvm.ClassFile.FieldType.boolean)) ∈ lw_all := lw_g (lw_at lw_m11 9 rfl) rfl
theorem q2572 : (Jvm.Cond.methodLink "TallySlateModel" (321 : Nat) ({ cls := "TallySlateModel", name := "wordHere", desc := "()I" } : Jvm.MethodName)) ∈ lw_all := lw_g (lw_at lw_m11 10 rfl) rfl
theorem q2574 : (Jvm.Cond.instanceMethod ({ cls := "TallySlateModel", name := "wordHere", desc := "()I" } : Jvm.MethodName)) ∈ lw_all := lw_g (lw_at lw_m11 12 rfl) rfl
theorem q2575 : (Jvm.Cond.code ({ cls := "TallySlateModel", name := "wordHere", desc := "()I" } : Jvm.MethodName) prog_37_method_15_code (2 : Nat) (Option.some Jvm.ClassFile.FieldType.int)) ∈ lw_all := lw_g (lw_at lw_m11 13 rfl) rfl
theorem q2576 : (Jvm.Cond.methodLink "TallySlateModel" (355 : Nat) ({ cls := "TallySlateModel", name := "isShelf", desc := "(J)Z" } : Jvm.MethodName)) ∈ lw_all := lw_g (lw_at lw_m11 14 rfl) rfl
theorem q2577 : (Jvm.Cond.static ({ cls := "TallySlateModel", name := "isShelf", desc := "(J)Z" } : Jvm.MethodName)) ∈ lw_all := lw_g (lw_at lw_m11 15 rfl) rfl
theorem q2578 : (Jvm.Cond.code ({ cls := "TallySlateModel", name := "isShelf", desc := "(J)Z" } : Jvm.MethodName) prog_37_method_24_code (2 : Nat) (Option.some Jvm.ClassFile.FieldType.boolean)) ∈ lw_all := lw_g (lw_at lw_m11 16 rfl) rfl
theorem q2579 : (Jvm.Cond.constantLong "TallySlateModel" (349 : Nat) (8 : Int64)) ∈ lw_all := lw_g (lw_at lw_m11 17 rfl) rfl
theorem q2580 : (Jvm.Cond.methodLink "TallySlateModel" (383 : Nat) ({ cls := "TallySlateModel", name := "parameters", desc := "()V" } : Jvm.MethodName)) ∈ lw_all := lw_g (lw_at lw_m11 18 rfl) rfl
theorem q2582 : (Jvm.Cond.instanceMethod ({ cls := "TallySlateModel", name := "parameters", desc := "()V" } : Jvm.MethodName)) ∈ lw_all := lw_g (lw_at lw_m11 20 rfl) rfl
theorem q2583 : (Jvm.Cond.code ({ cls := "TallySlateModel", name := "parameters", desc := "()V" } : Jvm.MethodName) prog_37_method_29_code (4 : Nat) (Option.none : Option Jvm.ClassFile.FieldType)) ∈ lw_all := lw_g (lw_at lw_m11 21 rfl) rfl
theorem q2584 : (Jvm.Cond.methodLink "TallySlateModel" (377 : Nat) ({ cls := "TallySlateModel", name := "opens", desc := "(I)V" } : Jvm.MethodName)) ∈ lw_all := lw_g (lw_at lw_m11 22 rfl) rfl
theorem q2586 : (Jvm.Cond.instanceMethod ({ cls := "TallySlateModel", name := "opens", desc := "(I)V" } : Jvm.MethodName)) ∈ lw_all := lw_g (lw_at lw_m11 24 rfl) rfl
theorem q2587 : (Jvm.Cond.code ({ cls := "TallySlateModel", name := "opens", desc := "(I)V" } : Jvm.MethodName) prog_37_method_18_code (2 : Nat) (Option.none : Option Jvm.ClassFile.FieldType)) ∈ lw_all := lw_g (lw_at lw_m11 25 rfl) rfl
theorem q2588 : (Jvm.Cond.methodLink "TallySlateModel" (325 : Nat) ({ cls := "TallySlateModel", name := "isSign", desc := "(I)Z" } : Jvm.MethodName)) ∈ lw_all := lw_g (lw_at lw_m11 26 rfl) rfl
theorem q2590 : (Jvm.Cond.instanceMethod ({ cls := "TallySlateModel", name := "isSign", desc := "(I)Z" } : Jvm.MethodName)) ∈ lw_all := lw_g (lw_at lw_m11 28 rfl) rfl
theorem q2591 : (Jvm.Cond.code ({ cls := "TallySlateModel", name := "isSign", desc := "(I)Z" } : Jvm.MethodName) prog_37_method_13_code (2 : Nat) (Option.some Jvm.ClassFile.FieldType.boolean)) ∈ lw_all := lw_g (lw_at lw_m11 29 rfl) rfl
theorem q2592 : (Jvm.Cond.methodLink "TallySlateModel" (393 : Nat) ({ cls := "TallySlateModel", name := "sign", desc := "(I)V" } : Jvm.MethodName)) ∈ lw_all := lw_g (lw_at lw_m11 30 rfl) rfl
theorem q2594 : (Jvm.Cond.instanceMethod ({ cls := "TallySlateModel", name := "sign", desc := "(I)V" } : Jvm.MethodName)) ∈ lw_all := lw_g (lw_at lw_m11 32 rfl) rfl
theorem q2595 : (Jvm.Cond.code ({ cls := "TallySlateModel", name := "sign", desc := "(I)V" } : Jvm.MethodName) prog_37_method_17_code (2 : Nat) (Option.none : Option Jvm.ClassFile.FieldType)) ∈ lw_all := lw_g (lw_at lw_m11 33 rfl) rfl
theorem q2596 : (Jvm.Cond.methodLink "TallySlateModel" (386 : Nat) ({ cls := "TallySlateModel", name := "here", desc := "()I" } : Jvm.MethodName)) ∈ lw_all := lw_g (lw_at lw_m11 34 rfl) rfl
theorem q2598 : (Jvm.Cond.instanceMethod ({ cls := "TallySlateModel", name := "here", desc := "()I" } : Jvm.MethodName)) ∈ lw_all := lw_g (lw_at lw_m11 36 rfl) rfl
theorem q2599 : (Jvm.Cond.code ({ cls := "TallySlateModel", name := "here", desc := "()I" } : Jvm.MethodName) prog_37_method_22_code (1 : Nat) (Option.some Jvm.ClassFile.FieldType.int)) ∈ lw_all := lw_g (lw_at lw_m11 37 rfl) rfl
theorem q2600 : (Jvm.Cond.methodLink "TallySlateModel" (389 : Nat) ({ cls := "TallySlateModel", name := "block", desc := "(III)V" } : Jvm.MethodName)) ∈ lw_all := lw_g (lw_at lw_m11 38 rfl) rfl
theorem q2602 : (Jvm.Cond.instanceMethod ({ cls := "TallySlateModel", name := "block", desc := "(III)V" } : Jvm.MethodName)) ∈ lw_all := lw_g (lw_at lw_m11 40 rfl) rfl
theorem q2603 : (Jvm.Cond.code ({ cls := "TallySlateModel", name := "block", desc := "(III)V" } : Jvm.MethodName) prog_37_method_27_code (4 : Nat) (Option.none : Option Jvm.ClassFile.FieldType)) ∈ lw_all := lw_g (lw_at lw_m11 41 rfl) rfl
theorem q2604 : (Jvm.Cond.methodLink "TallySlateModel" (371 : Nat) ({ cls := "TallySlateModel", name := "closes", desc := "()V" } : Jvm.MethodName)) ∈ lw_all := lw_g (lw_at lw_m11 42 rfl) rfl
theorem q2606 : (Jvm.Cond.instanceMethod ({ cls := "TallySlateModel", name := "closes", desc := "()V" } : Jvm.MethodName)) ∈ lw_all := lw_g (lw_at lw_m11 44 rfl) rfl
theorem q2607 : (Jvm.Cond.code ({ cls := "TallySlateModel", name := "closes", desc := "()V" } : Jvm.MethodName) prog_37_method_30_code (3 : Nat) (Option.none : Option Jvm.ClassFile.FieldType)) ∈ lw_all := lw_g (lw_at lw_m11 45 rfl) rfl
theorem q2608 : (Jvm.Cond.methodLink "TallySlateModel" (396 : Nat) ({ cls := "TallySlateModel", name := "order", desc := "(IIII)I" } : Jvm.MethodName)) ∈ lw_all := lw_g (lw_at lw_m11 46 rfl) rfl
theorem q2610 : (Jvm.Cond.instanceMethod ({ cls := "TallySlateModel", name := "order", desc := "(IIII)I" } : Jvm.MethodName)) ∈ lw_all := lw_g (lw_at lw_m11 48 rfl) rfl
theorem q2611 : (Jvm.Cond.code ({ cls := "TallySlateModel", name := "order", desc := "(IIII)I" } : Jvm.MethodName) prog_37_method_21_code (6 : Nat) (Option.some Jvm.ClassFile.FieldType.int)) ∈ lw_all := lw_g (lw_at lw_m11 49 rfl) rfl
theorem q2612 : (Jvm.Cond.methodLink "TallySlateModel" (400 : Nat) ({ cls := "TallySlateModel", name := "name", desc := "()I" } : Jvm.MethodName)) ∈ lw_all := lw_g (lw_at lw_m11 50 rfl) rfl
theorem q2614 : (Jvm.Cond.instanceMethod ({ cls := "TallySlateModel", name := "name", desc := "()I" } : Jvm.MethodName)) ∈ lw_all := lw_g (lw_at lw_m11 52 rfl) rfl
theorem q2615 : (Jvm.Cond.code ({ cls := "TallySlateModel", name := "name", desc := "()I" } : Jvm.MethodName) prog_37_method_25_code (2 : Nat) (Option.some Jvm.ClassFile.FieldType.int)) ∈ lw_all := lw_g (lw_at lw_m11 53 rfl) rfl
theorem q2616 : (Jvm.Cond.methodLink "TallySlateModel" (374 : Nat) ({ cls := "TallySlateModel", name := "statement", desc := "()V" } : Jvm.MethodName)) ∈ lw_all := lw_g (lw_at lw_m11 54 rfl) rfl
theorem q2618 : (Jvm.Cond.instanceMethod ({ cls := "TallySlateModel", name := "statement", desc := "()V" } : Jvm.MethodName)) ∈ lw_all := lw_g (lw_at lw_m11 56 rfl) rfl
theorem q2619 : (Jvm.Cond.code ({ cls := "TallySlateModel", name := "statement", desc := "()V" } : Jvm.MethodName) prog_37_method_31_code (5 : Nat) (Option.none : Option Jvm.ClassFile.FieldType)) ∈ lw_all := lw_g (lw_at lw_m11 57 rfl) rfl
theorem q2620 : (Jvm.Cond.methodLink "TallySlateModel" (403 : Nat) ({ cls := "TallySlateModel", name := "isBracketBehind", desc := "()Z" } : Jvm.MethodName)) ∈ lw_all := lw_g (lw_at lw_m11 58 rfl) rfl
theorem q2622 : (Jvm.Cond.instanceMethod ({ cls := "TallySlateModel", name := "isBracketBehind", desc := "()Z" } : Jvm.MethodName)) ∈ lw_all := lw_g (lw_at lw_m11 60 rfl) rfl
theorem q2623 : (Jvm.Cond.code ({ cls := "TallySlateModel", name := "isBracketBehind", desc := "()Z" } : Jvm.MethodName) prog_37_method_20_code (1 : Nat) (Option.some Jvm.ClassFile.FieldType.boolean)) ∈ lw_all := lw_g (lw_at lw_m11 61 rfl) rfl
theorem q2624 : (Jvm.Cond.methodLink "TallySlateModel" (406 : Nat) ({ cls := "TallySlateModel", name := "expression", desc := "(Z)V" } : Jvm.MethodName)) ∈ lw_all := lw_g (lw_at lw_m11 62 rfl) rfl
theorem q2626 : (Jvm.Cond.instanceMethod ({ cls := "TallySlateModel", name := "expression", desc := "(Z)V" } : Jvm.MethodName)) ∈ lw_all := lw_g (lw_at lw_m11 64 rfl) rfl
theorem q2627 : (Jvm.Cond.code ({ cls := "TallySlateModel", name := "expression", desc := "(Z)V" } : Jvm.MethodName) prog_37_method_37_code (4 : Nat) (Option.none : Option Jvm.ClassFile.FieldType)) ∈ lw_all := lw_g (lw_at lw_m11 65 rfl) rfl
theorem q2628 : (Jvm.Cond.methodLink "TallySlateModel" (422 : Nat) ({ cls := "TallySlateModel", name := "starts", desc := "()Z" } : Jvm.MethodName)) ∈ lw_all := lw_g (lw_at lw_m11 66 rfl) rfl
theorem q2630 : (Jvm.Cond.instanceMethod ({ cls := "TallySlateModel", name := "starts", desc := "()Z" } : Jvm.MethodName)) ∈ lw_all := lw_g (lw_at lw_m11 68 rfl) rfl
theorem q2631 : (Jvm.Cond.code ({ cls := "TallySlateModel", name := "starts", desc := "()Z" } : Jvm.MethodName) prog_37_method_38_code (4 : Nat) (Option.some Jvm.ClassFile.FieldType.boolean)) ∈ lw_all := lw_g (lw_at lw_m11 69 rfl) rfl
theorem q2632 : (Jvm.Cond.methodLink "TallySlateModel" (416 : Nat) ({ cls := "TallySlateModel", name := "isWaiting", desc := "(I)Z" } : Jvm.MethodName)) ∈ lw_all := lw_g (lw_at lw_m11 70 rfl) rfl
theorem q2634 : (Jvm.Cond.instanceMethod ({ cls := "TallySlateModel", name := "isWaiting", desc := "(I)Z" } : Jvm.MethodName)) ∈ lw_all := lw_g (lw_at lw_m11 72 rfl) rfl
theorem q2635 : (Jvm.Cond.code ({ cls := "TallySlateModel", name := "isWaiting", desc := "(I)Z" } : Jvm.MethodName) prog_37_method_35_code (2 : Nat) (Option.some Jvm.ClassFile.FieldType.boolean)) ∈ lw_all := lw_g (lw_at lw_m11 73 rfl) rfl
theorem q2636 : (Jvm.Cond.methodLink "TallySlateModel" (425 : Nat) ({ cls := "TallySlateModel", name := "wait", desc := "(III)V" } : Jvm.MethodName)) ∈ lw_all := lw_g (lw_at lw_m11 74 rfl) rfl
theorem q2638 : (Jvm.Cond.instanceMethod ({ cls := "TallySlateModel", name := "wait", desc := "(III)V" } : Jvm.MethodName)) ∈ lw_all := lw_g (lw_at lw_m11 76 rfl) rfl
theorem q2639 : (Jvm.Cond.code ({ cls := "TallySlateModel", name := "wait", desc := "(III)V" } : Jvm.MethodName) prog_37_method_33_code (4 : Nat) (Option.none : Option Jvm.ClassFile.FieldType)) ∈ lw_all := lw_g (lw_at lw_m11 77 rfl) rfl
theorem q2640 : (Jvm.Cond.methodLink "TallySlateModel" (434 : Nat) ({ cls := "TallySlateModel", name := "ends2", desc := "()Z" } : Jvm.MethodName)) ∈ lw_all := lw_g (lw_at lw_m11 78 rfl) rfl
theorem q2642 : (Jvm.Cond.instanceMethod ({ cls := "TallySlateModel", name := "ends2", desc := "()Z" } : Jvm.MethodName)) ∈ lw_all := lw_g (lw_at lw_m11 80 rfl) rfl
theorem q2643 : (Jvm.Cond.code ({ cls := "TallySlateModel", name := "ends2", desc := "()Z" } : Jvm.MethodName) prog_37_method_42_code (3 : Nat) (Option.some Jvm.ClassFile.FieldType.boolean)) ∈ lw_all := lw_g (lw_at lw_m11 81 rfl) rfl
theorem q2644 : (Jvm.Cond.methodLink "TallySlateModel" (441 : Nat) ({ cls := "TallySlateModel", name := "most0", desc := "(I)I" } : Jvm.MethodName)) ∈ lw_all := lw_g (lw_at lw_m11 82 rfl) rfl
theorem q2646 : (Jvm.Cond.instanceMethod ({ cls := "TallySlateModel", name := "most0", desc := "(I)I" } : Jvm.MethodName)) ∈ lw_all := lw_g (lw_at lw_m11 84 rfl) rfl
theorem q2647 : (Jvm.Cond.code ({ cls := "TallySlateModel", name := "most0", desc := "(I)I" } : Jvm.MethodName) prog_37_method_41_code (2 : Nat) (Option.some Jvm.ClassFile.FieldType.int)) ∈ lw_all := lw_g (lw_at lw_m11 85 rfl) rfl
theorem q2648 : (Jvm.Cond.methodLink "TallySlateModel" (444 : Nat) ({ cls := "TallySlateModel", name := "called", desc := "(IJII)V" } : Jvm.MethodName)) ∈ lw_all := lw_g (lw_at lw_m11 86 rfl) rfl
theorem q2650 : (Jvm.Cond.instanceMethod ({ cls := "TallySlateModel", name := "called", desc := "(IJII)V" } : Jvm.MethodName)) ∈ lw_all := lw_g (lw_at lw_m11 88 rfl) rfl
theorem q2651 : (Jvm.Cond.code ({ cls := "TallySlateModel", name := "called", desc := "(IJII)V" } : Jvm.MethodName) prog_37_method_23_code (6 : Nat) (Option.none : Option Jvm.ClassFile.FieldType)) ∈ lw_all := lw_g (lw_at lw_m11 89 rfl) rfl
theorem q2652 : (Jvm.Cond.methodLink "TallySlateModel" (437 : Nat) ({ cls := "TallySlateModel", name := "begins1", desc := "(II)Z" } : Jvm.MethodName)) ∈ lw_all := lw_g (lw_at lw_m11 90 rfl) rfl
theorem q2654 : (Jvm.Cond.instanceMethod ({ cls := "TallySlateModel", name := "begins1", desc := "(II)Z" } : Jvm.MethodName)) ∈ lw_all := lw_g (lw_at lw_m11 92 rfl) rfl
theorem q2655 : (Jvm.Cond.code ({ cls := "TallySlateModel", name := "begins1", desc := "(II)Z" } : Jvm.MethodName) prog_37_method_39_code (6 : Nat) (Option.some Jvm.ClassFile.FieldType.boolean)) ∈ lw_all := lw_g (lw_at lw_m11 93 rfl) rfl
theorem q2656 : (Jvm.Cond.methodLink "TallySlateModel" (419 : Nat) ({ cls := "TallySlateModel", name := "levelOf", desc := "(I)I" } : Jvm.MethodName)) ∈ lw_all := lw_g (lw_at lw_m11 94 rfl) rfl
theorem q2657 : (Jvm.Cond.static ({ cls := "TallySlateModel", name := "levelOf", desc := "(I)I" } : Jvm.MethodName)) ∈ lw_all := lw_g (lw_at lw_m11 95 rfl) rfl
theorem q2658 : (Jvm.Cond.code ({ cls := "TallySlateModel", name := "levelOf", desc := "(I)I" } : Jvm.MethodName) prog_37_method_34_code (1 : Nat) (Option.some Jvm.ClassFile.FieldType.int)) ∈ lw_all := lw_g (lw_at lw_m11 96 rfl) rfl
theorem q2659 : (Jvm.Cond.methodLink "TallySlateModel" (428 : Nat) ({ cls := "TallySlateModel", name := "reduce", desc := "(I)V" } : Jvm.MethodName)) ∈ lw_all := lw_g (lw_at lw_m11 97 rfl) rfl
theorem q2661 : (Jvm.Cond.instanceMethod ({ cls := "TallySlateModel", name := "reduce", desc := "(I)V" } : Jvm.MethodName)) ∈ lw_all := lw_g (lw_at lw_m11 99 rfl) rfl
theorem q2662 : (Jvm.Cond.code ({ cls := "TallySlateModel", name := "reduce", desc := "(I)V" } : Jvm.MethodName) prog_37_method_36_code (2 : Nat) (Option.none : Option Jvm.ClassFile.FieldType)) ∈ lw_all := lw_g (lw_at lw_m11 100 rfl) rfl
theorem q2663 : (Jvm.Cond.methodLink "TallySlateModel" (431 : Nat) ({ cls := "TallySlateModel", name := "ends1", desc := "()Z" } : Jvm.MethodName)) ∈ lw_all := lw_g (lw_at lw_m11 101 rfl) rfl
theorem q2665 : (Jvm.Cond.instanceMethod ({ cls := "TallySlateModel", name := "ends1", desc := "()Z" } : Jvm.MethodName)) ∈ lw_all := lw_g (lw_at lw_m11 103 rfl) rfl
theorem q2666 : (Jvm.Cond.code ({ cls := "TallySlateModel", name := "ends1", desc := "()Z" } : Jvm.MethodName) prog_37_method_40_code (4 : Nat) (Option.some Jvm.ClassFile.FieldType.boolean)) ∈ lw_all := lw_g (lw_at lw_m11 104 rfl) rfl
theorem q2667 : (Jvm.Cond.methodLink "TallySlateModel" (410 : Nat) ({ cls := "TallySlateModel", name := "puts", desc := "()V" } : Jvm.MethodName)) ∈ lw_all := lw_g (lw_at lw_m11 105 rfl) rfl
theorem q2669 : (Jvm.Cond.instanceMethod ({ cls := "TallySlateModel", name := "puts", desc := "()V" } : Jvm.MethodName)) ∈ lw_all := lw_g (lw_at lw_m11 107 rfl) rfl
theorem q2670 : (Jvm.Cond.code ({ cls := "TallySlateModel", name := "puts", desc := "()V" } : Jvm.MethodName) prog_37_method_32_code (6 : Nat) (Option.none : Option Jvm.ClassFile.FieldType)) ∈ lw_all := lw_g (lw_at lw_m11 108 rfl) rfl
theorem q2671 : (Jvm.Cond.methodLink "TallySlateModel" (451 : Nat) ({ cls := "TallySlateModel", name := "resolve", desc := "()V" } : Jvm.MethodName)) ∈ lw_all := lw_g (lw_at lw_m11 109 rfl) rfl
theorem q2673 : (Jvm.Cond.instanceMethod ({ cls := "TallySlateModel", name := "resolve", desc := "()V" } : Jvm.MethodName)) ∈ lw_all := lw_g (lw_at lw_m11 111 rfl) rfl
theorem q2674 : (Jvm.Cond.code ({ cls := "TallySlateModel", name := "resolve", desc := "()V" } : Jvm.MethodName) prog_37_method_43_code (6 : Nat) (Option.none : Option Jvm.ClassFile.FieldType)) ∈ lw_all := lw_g (lw_at lw_m11 112 rfl) rfl
theorem q2676 : (Jvm.Cond.instanceMethod ({ cls := "TallySlateModel", name := "fault", desc := "(I)I" } : Jvm.MethodName)) ∈ lw_all := lw_g (lw_at lw_m11 114 rfl) rfl
theorem q2677 : (Jvm.Cond.selects "TallySlateModel" ({ cls := "TallySlateModel", name := "fault", desc := "(I)I" } : Jvm.MethodName) ({ cls := "TallySlateModel", name := "fault", desc := "(I)I" } : Jvm.MethodName)) ∈ lw_all := lw_g (lw_at lw_m11 115 rfl) rfl
theorem q2678 : (Jvm.Cond.code ({ cls := "TallySlateModel", name := "fault", desc := "(I)I" } : Jvm.MethodName) prog_37_method_45_code (2 : Nat) (Option.some Jvm.ClassFile.FieldType.int)) ∈ lw_all := lw_g (lw_at lw_m11 116 rfl) rfl
theorem q2680 : (Jvm.Cond.instanceMethod ({ cls := "TallySlateModel", name := "function", desc := "(II)I" } : Jvm.MethodName)) ∈ lw_all := lw_g (lw_at lw_m11 118 rfl) rfl
theorem q2681 : (Jvm.Cond.selects "TallySlateModel" ({ cls := "TallySlateModel", name := "function", desc := "(II)I" } : Jvm.MethodName) ({ cls := "TallySlateModel", name := "function", desc := "(II)I" } : Jvm.MethodName)) ∈ lw_all := lw_g (lw_at lw_m11 119 rfl) rfl
theorem q2682 : (Jvm.Cond.code ({ cls := "TallySlateModel", name := "function", desc := "(II)I" } : Jvm.MethodName) prog_37_method_46_code (4 : Nat) (Option.some Jvm.ClassFile.FieldType.int)) ∈ lw_all := lw_g (lw_at lw_m11 120 rfl) rfl
theorem q2684 : (Jvm.Cond.instanceMethod ({ cls := "TallySlateModel", name := "run", desc := "(III)I" } : Jvm.MethodName)) ∈ lw_all := lw_g (lw_at lw_m11 122 rfl) rfl
theorem q2685 : (Jvm.Cond.selects "TallySlateModel" ({ cls := "TallySlateModel", name := "run", desc := "(III)I" } : Jvm.MethodName) ({ cls := "TallySlateModel", name := "run", desc := "(III)I" } : Jvm.MethodName)) ∈ lw_all := lw_g (lw_at lw_m11 123 rfl) rfl
theorem q2686 : (Jvm.Cond.code ({ cls := "TallySlateModel", name := "run", desc := "(III)I" } : Jvm.MethodName) prog_37_method_72_code (6 : Nat) (Option.some Jvm.ClassFile.FieldType.int)) ∈ lw_all := lw_g (lw_at lw_m11 124 rfl) rfl
theorem q2687 : (Jvm.Cond.constant "TallySlateModel" (558 : Nat) (154250 : Int32)) ∈ lw_all := lw_g (lw_at lw_m11 125 rfl) rfl
theorem q2688 : (Jvm.Cond.constant "TallySlateModel" (559 : Nat) (154240 : Int32)) ∈ lw_all := lw_g (lw_at lw_m11 126 rfl) rfl
theorem q2689 : (Jvm.Cond.constant "TallySlateModel" (560 : Nat) (154241 : Int32)) ∈ lw_all := lw_g (lw_at lw_m11 127 rfl) rfl
theorem q2690 : (Jvm.Cond.methodLink "TallySlateModel" (561 : Nat) ({ cls := "TallySlateModel", name := "enters", desc := "(III)V" } : Jvm.MethodName)) ∈ lw_all := lw_g (lw_at lw_m11 128 rfl) rfl
theorem q2692 : (Jvm.Cond.instanceMethod ({ cls := "TallySlateModel", name := "enters", desc := "(III)V" } : Jvm.MethodName)) ∈ lw_all := lw_g (lw_at lw_m11 130 rfl) rfl
theorem q2693 : (Jvm.Cond.code ({ cls := "TallySlateModel", name := "enters", desc := "(III)V" } : Jvm.MethodName) prog_37_method_69_code (6 : Nat) (Option.none : Option Jvm.ClassFile.FieldType)) ∈ lw_all := lw_g (lw_at lw_m11 131 rfl) rfl
theorem q2694 : (Jvm.Cond.methodLink "TallySlateModel" (510 : Nat) ({ cls := "TallySlateModel", name := "trouble", desc := "(II)V" } : Jvm.MethodName)) ∈ lw_all := lw_g (lw_at lw_m11 132 rfl) rfl
theorem q2696 : (Jvm.Cond.instanceMethod ({ cls := "TallySlateModel", name := "trouble", desc := "(II)V" } : Jvm.MethodName)) ∈ lw_all := lw_g (lw_at lw_m11 134 rfl) rfl
theorem q2697 : (Jvm.Cond.code ({ cls := "TallySlateModel", name := "trouble", desc := "(II)V" } : Jvm.MethodName) prog_37_method_60_code (3 : Nat) (Option.none : Option Jvm.ClassFile.FieldType)) ∈ lw_all := lw_g (lw_at lw_m11 135 rfl) rfl
theorem q2698 : (Jvm.Cond.methodLink "TallySlateModel" (564 : Nat) ({ cls := "TallySlateModel", name := "does", desc := "(I)V" } : Jvm.MethodName)) ∈ lw_all := lw_g (lw_at lw_m11 136 rfl) rfl
theorem q2700 : (Jvm.Cond.instanceMethod ({ cls := "TallySlateModel", name := "does", desc := "(I)V" } : Jvm.MethodName)) ∈ lw_all := lw_g (lw_at lw_m11 138 rfl) rfl
theorem q2701 : (Jvm.Cond.code ({ cls := "TallySlateModel", name := "does", desc := "(I)V" } : Jvm.MethodName) prog_37_method_73_code (2 : Nat) (Option.none : Option Jvm.ClassFile.FieldType)) ∈ lw_all := lw_g (lw_at lw_m11 139 rfl) rfl
theorem q2702 : (Jvm.Cond.methodLink "TallySlateModel" (573 : Nat) ({ cls := "TallySlateModel", name := "step", desc := "()V" } : Jvm.MethodName)) ∈ lw_all := lw_g (lw_at lw_m11 140 rfl) rfl
theorem q2704 : (Jvm.Cond.instanceMethod ({ cls := "TallySlateModel", name := "step", desc := "()V" } : Jvm.MethodName)) ∈ lw_all := lw_g (lw_at lw_m11 142 rfl) rfl
theorem q2705 : (Jvm.Cond.code ({ cls := "TallySlateModel", name := "step", desc := "()V" } : Jvm.MethodName) prog_37_method_61_code (1 : Nat) (Option.none : Option Jvm.ClassFile.FieldType)) ∈ lw_all := lw_g (lw_at lw_m11 143 rfl) rfl
theorem q2706 : (Jvm.Cond.methodLink "TallySlateModel" (464 : Nat) ({ cls := "TallySlateModel", name := "push", desc := "(II)V" } : Jvm.MethodName)) ∈ lw_all := lw_g (lw_at lw_m11 144 rfl) rfl
theorem q2708 : (Jvm.Cond.instanceMethod ({ cls := "TallySlateModel", name := "push", desc := "(II)V" } : Jvm.MethodName)) ∈ lw_all := lw_g (lw_at lw_m11 146 rfl) rfl
theorem q2709 : (Jvm.Cond.code ({ cls := "TallySlateModel", name := "push", desc := "(II)V" } : Jvm.MethodName) prog_37_method_47_code (3 : Nat) (Option.none : Option Jvm.ClassFile.FieldType)) ∈ lw_all := lw_g (lw_at lw_m11 147 rfl) rfl
theorem q2710 : (Jvm.Cond.methodLink "TallySlateModel" (576 : Nat) ({ cls := "TallySlateModel", name := "kindOf", desc := "(I)I" } : Jvm.MethodName)) ∈ lw_all := lw_g (lw_at lw_m11 148 rfl) rfl
theorem q2712 : (Jvm.Cond.instanceMethod ({ cls := "TallySlateModel", name := "kindOf", desc := "(I)I" } : Jvm.MethodName)) ∈ lw_all := lw_g (lw_at lw_m11 150 rfl) rfl
theorem q2713 : (Jvm.Cond.code ({ cls := "TallySlateModel", name := "kindOf", desc := "(I)I" } : Jvm.MethodName) prog_37_method_67_code (2 : Nat) (Option.some Jvm.ClassFile.FieldType.int)) ∈ lw_all := lw_g (lw_at lw_m11 151 rfl) rfl
theorem q2714 : (Jvm.Cond.methodLink "TallySlateModel" (579 : Nat) ({ cls := "TallySlateModel", name := "valueOf", desc := "(I)I" } : Jvm.MethodName)) ∈ lw_all := lw_g (lw_at lw_m11 152 rfl) rfl
theorem q2716 : (Jvm.Cond.instanceMethod ({ cls := "TallySlateModel", name := "valueOf", desc := "(I)I" } : Jvm.MethodName)) ∈ lw_all := lw_g (lw_at lw_m11 154 rfl) rfl
theorem q2717 : (Jvm.Cond.code ({ cls := "TallySlateModel", name := "valueOf", desc := "(I)I" } : Jvm.MethodName) prog_37_method_68_code (2 : Nat) (Option.some Jvm.ClassFile.FieldType.int)) ∈ lw_all := lw_g (lw_at lw_m11 155 rfl) rfl
theorem q2718 : (Jvm.Cond.methodLink "TallySlateModel" (582 : Nat) ({ cls := "TallySlateModel", name := "works", desc := "(I)V" } : Jvm.MethodName)) ∈ lw_all := lw_g (lw_at lw_m11 156 rfl) rfl
theorem q2720 : (Jvm.Cond.instanceMethod ({ cls := "TallySlateModel", name := "works", desc := "(I)V" } : Jvm.MethodName)) ∈ lw_all := lw_g (lw_at lw_m11 158 rfl) rfl
theorem q2721 : (Jvm.Cond.code ({ cls := "TallySlateModel", name := "works", desc := "(I)V" } : Jvm.MethodName) prog_37_method_76_code (2 : Nat) (Option.none : Option Jvm.ClassFile.FieldType)) ∈ lw_all := lw_g (lw_at lw_m11 159 rfl) rfl
theorem q2722 : (Jvm.Cond.methodLink "TallySlateModel" (613 : Nat) ({ cls := "TallySlateModel", name := "one", desc := "(I)V" } : Jvm.MethodName)) ∈ lw_all := lw_g (lw_at lw_m11 160 rfl) rfl
theorem q2724 : (Jvm.Cond.instanceMethod ({ cls := "TallySlateModel", name := "one", desc := "(I)V" } : Jvm.MethodName)) ∈ lw_all := lw_g (lw_at lw_m11 162 rfl) rfl
theorem q2725 : (Jvm.Cond.code ({ cls := "TallySlateModel", name := "one", desc := "(I)V" } : Jvm.MethodName) prog_37_method_83_code (9 : Nat) (Option.none : Option Jvm.ClassFile.FieldType)) ∈ lw_all := lw_g (lw_at lw_m11 163 rfl) rfl
theorem q2726 : (Jvm.Cond.methodLink "TallySlateModel" (631 : Nat) ({ cls := "TallySlateModel", name := "kindAt", desc := "(I)I" } : Jvm.MethodName)) ∈ lw_all := lw_g (lw_at lw_m11 164 rfl) rfl
theorem q2728 : (Jvm.Cond.instanceMethod ({ cls := "TallySlateModel", name := "kindAt", desc := "(I)I" } : Jvm.MethodName)) ∈ lw_all := lw_g (lw_at lw_m11 166 rfl) rfl
theorem q2729 : (Jvm.Cond.code ({ cls := "TallySlateModel", name := "kindAt", desc := "(I)I" } : Jvm.MethodName) prog_37_method_48_code (2 : Nat) (Option.some Jvm.ClassFile.FieldType.int)) ∈ lw_all := lw_g (lw_at lw_m11 167 rfl) rfl
theorem q2730 : (Jvm.Cond.methodLink "TallySlateModel" (644 : Nat) ({ cls := "TallySlateModel", name := "single", desc := "(II)I" } : Jvm.MethodName)) ∈ lw_all := lw_g (lw_at lw_m11 168 rfl) rfl
theorem q2731 : (Jvm.Cond.static ({ cls := "TallySlateModel", name := "single", desc := "(II)I" } : Jvm.MethodName)) ∈ lw_all := lw_g (lw_at lw_m11 169 rfl) rfl
theorem q2732 : (Jvm.Cond.code ({ cls := "TallySlateModel", name := "single", desc := "(II)I" } : Jvm.MethodName) prog_37_method_82_code (2 : Nat) (Option.some Jvm.ClassFile.FieldType.int)) ∈ lw_all := lw_g (lw_at lw_m11 170 rfl) rfl
theorem q2733 : (Jvm.Cond.methodLink "TallySlateModel" (477 : Nat) ({ cls := "TallySlateModel", name := "sizeAt", desc := "(I)I" } : Jvm.MethodName)) ∈ lw_all := lw_g (lw_at lw_m11 171 rfl) rfl
theorem q2735 : (Jvm.Cond.instanceMethod ({ cls := "TallySlateModel", name := "sizeAt", desc := "(I)I" } : Jvm.MethodName)) ∈ lw_all := lw_g (lw_at lw_m11 173 rfl) rfl
theorem q2736 : (Jvm.Cond.code ({ cls := "TallySlateModel", name := "sizeAt", desc := "(I)I" } : Jvm.MethodName) prog_37_method_49_code (2 : Nat) (Option.some Jvm.ClassFile.FieldType.int)) ∈ lw_all := lw_g (lw_at lw_m11 174 rfl) rfl
theorem q2737 : (Jvm.Cond.methodLink "TallySlateModel" (628 : Nat) ({ cls := "TallySlateModel", name := "builds", desc := "(II)V" } : Jvm.MethodName)) ∈ lw_all := lw_g (lw_at lw_m11 175 rfl) rfl
theorem q2739 : (Jvm.Cond.instanceMethod ({ cls := "TallySlateModel", name := "builds", desc := "(II)V" } : Jvm.MethodName)) ∈ lw_all := lw_g (lw_at lw_m11 177 rfl) rfl
theorem q2740 : (Jvm.Cond.code ({ cls := "TallySlateModel", name := "builds", desc := "(II)V" } : Jvm.MethodName) prog_37_method_64_code (10 : Nat) (Option.none : Option Jvm.ClassFile.FieldType)) ∈ lw_all := lw_g (lw_at lw_m11 178 rfl) rfl
theorem q2741 : (Jvm.Cond.methodLink "TallySlateModel" (522 : Nat) ({ cls := "TallySlateModel", name := "measure", desc := "(I)V" } : Jvm.MethodName)) ∈ lw_all := lw_g (lw_at lw_m11 179 rfl) rfl
theorem q2743 : (Jvm.Cond.instanceMethod ({ cls := "TallySlateModel", name := "measure", desc := "(I)V" } : Jvm.MethodName)) ∈ lw_all := lw_g (lw_at lw_m11 181 rfl) rfl
theorem q2744 : (Jvm.Cond.code ({ cls := "TallySlateModel", name := "measure", desc := "(I)V" } : Jvm.MethodName) prog_37_method_55_code (5 : Nat) (Option.none : Option Jvm.ClassFile.FieldType)) ∈ lw_all := lw_g (lw_at lw_m11 182 rfl) rfl
theorem q2745 : (Jvm.Cond.methodLink "TallySlateModel" (483 : Nat) ({ cls := "TallySlateModel", name := "plainBulk", desc := "(I)I" } : Jvm.MethodName)) ∈ lw_all := lw_g (lw_at lw_m11 183 rfl) rfl
theorem q2747 : (Jvm.Cond.instanceMethod ({ cls := "TallySlateModel", name := "plainBulk", desc := "(I)I" } : Jvm.MethodName)) ∈ lw_all := lw_g (lw_at lw_m11 185 rfl) rfl
theorem q2748 : (Jvm.Cond.code ({ cls := "TallySlateModel", name := "plainBulk", desc := "(I)I" } : Jvm.MethodName) prog_37_method_54_code (4 : Nat) (Option.some Jvm.ClassFile.FieldType.int)) ∈ lw_all := lw_g (lw_at lw_m11 186 rfl) rfl
theorem q2749 : (Jvm.Cond.methodLink "TallySlateModel" (470 : Nat) ({ cls := "TallySlateModel", name := "partAt", desc := "(II)I" } : Jvm.MethodName)) ∈ lw_all := lw_g (lw_at lw_m11 187 rfl) rfl
theorem q2751 : (Jvm.Cond.instanceMethod ({ cls := "TallySlateModel", name := "partAt", desc := "(II)I" } : Jvm.MethodName)) ∈ lw_all := lw_g (lw_at lw_m11 189 rfl) rfl
theorem q2752 : (Jvm.Cond.code ({ cls := "TallySlateModel", name := "partAt", desc := "(II)I" } : Jvm.MethodName) prog_37_method_51_code (3 : Nat) (Option.some Jvm.ClassFile.FieldType.int)) ∈ lw_all := lw_g (lw_at lw_m11 190 rfl) rfl
theorem q2753 : (Jvm.Cond.methodLink "TallySlateModel" (489 : Nat) ({ cls := "TallySlateModel", name := "goesIn", desc := "(II)V" } : Jvm.MethodName)) ∈ lw_all := lw_g (lw_at lw_m11 191 rfl) rfl
theorem q2755 : (Jvm.Cond.instanceMethod ({ cls := "TallySlateModel", name := "goesIn", desc := "(II)V" } : Jvm.MethodName)) ∈ lw_all := lw_g (lw_at lw_m11 193 rfl) rfl
theorem q2756 : (Jvm.Cond.code ({ cls := "TallySlateModel", name := "goesIn", desc := "(II)V" } : Jvm.MethodName) prog_37_method_53_code (3 : Nat) (Option.none : Option Jvm.ClassFile.FieldType)) ∈ lw_all := lw_g (lw_at lw_m11 194 rfl) rfl
theorem q2757 : (Jvm.Cond.methodLink "TallySlateModel" (467 : Nat) ({ cls := "TallySlateModel", name := "isInt", desc := "(II)Z" } : Jvm.MethodName)) ∈ lw_all := lw_g (lw_at lw_m11 195 rfl) rfl
theorem q2759 : (Jvm.Cond.instanceMethod ({ cls := "TallySlateModel", name := "isInt", desc := "(II)Z" } : Jvm.MethodName)) ∈ lw_all := lw_g (lw_at lw_m11 197 rfl) rfl
theorem q2760 : (Jvm.Cond.code ({ cls := "TallySlateModel", name := "isInt", desc := "(II)Z" } : Jvm.MethodName) prog_37_method_50_code (3 : Nat) (Option.some Jvm.ClassFile.FieldType.boolean)) ∈ lw_all := lw_g (lw_at lw_m11 198 rfl) rfl
theorem q2761 : (Jvm.Cond.methodLink "TallySlateModel" (525 : Nat) ({ cls := "TallySlateModel", name := "begins", desc := "(II)I" } : Jvm.MethodName)) ∈ lw_all := lw_g (lw_at lw_m11 199 rfl) rfl
theorem q2763 : (Jvm.Cond.instanceMethod ({ cls := "TallySlateModel", name := "begins", desc := "(II)I" } : Jvm.MethodName)) ∈ lw_all := lw_g (lw_at lw_m11 201 rfl) rfl
theorem q2764 : (Jvm.Cond.code ({ cls := "TallySlateModel", name := "begins", desc := "(II)I" } : Jvm.MethodName) prog_37_method_63_code (4 : Nat) (Option.some Jvm.ClassFile.FieldType.int)) ∈ lw_all := lw_g (lw_at lw_m11 202 rfl) rfl
theorem q2765 : (Jvm.Cond.methodLink "TallySlateModel" (528 : Nat) ({ cls := "TallySlateModel", name := "gives", desc := "(I)V" } : Jvm.MethodName)) ∈ lw_all := lw_g (lw_at lw_m11 203 rfl) rfl
theorem q2767 : (Jvm.Cond.instanceMethod ({ cls := "TallySlateModel", name := "gives", desc := "(I)V" } : Jvm.MethodName)) ∈ lw_all := lw_g (lw_at lw_m11 205 rfl) rfl
theorem q2768 : (Jvm.Cond.code ({ cls := "TallySlateModel", name := "gives", desc := "(I)V" } : Jvm.MethodName) prog_37_method_62_code (2 : Nat) (Option.none : Option Jvm.ClassFile.FieldType)) ∈ lw_all := lw_g (lw_at lw_m11 206 rfl) rfl
theorem q2769 : (Jvm.Cond.methodLink "TallySlateModel" (516 : Nat) ({ cls := "TallySlateModel", name := "counts", desc := "(I)I" } : Jvm.MethodName)) ∈ lw_all := lw_g (lw_at lw_m11 207 rfl) rfl
theorem q2771 : (Jvm.Cond.instanceMethod ({ cls := "TallySlateModel", name := "counts", desc := "(I)I" } : Jvm.MethodName)) ∈ lw_all := lw_g (lw_at lw_m11 209 rfl) rfl
theorem q2772 : (Jvm.Cond.code ({ cls := "TallySlateModel", name := "counts", desc := "(I)I" } : Jvm.MethodName) prog_37_method_56_code (4 : Nat) (Option.some Jvm.ClassFile.FieldType.int)) ∈ lw_all := lw_g (lw_at lw_m11 210 rfl) rfl
theorem q2773 : (Jvm.Cond.methodLink "TallySlateModel" (634 : Nat) ({ cls := "TallySlateModel", name := "rowOf", desc := "(I)V" } : Jvm.MethodName)) ∈ lw_all := lw_g (lw_at lw_m11 211 rfl) rfl
theorem q2775 : (Jvm.Cond.instanceMethod ({ cls := "TallySlateModel", name := "rowOf", desc := "(I)V" } : Jvm.MethodName)) ∈ lw_all := lw_g (lw_at lw_m11 213 rfl) rfl
theorem q2776 : (Jvm.Cond.code ({ cls := "TallySlateModel", name := "rowOf", desc := "(I)V" } : Jvm.MethodName) prog_37_method_65_code (4 : Nat) (Option.none : Option Jvm.ClassFile.FieldType)) ∈ lw_all := lw_g (lw_at lw_m11 214 rfl) rfl
theorem q2777 : (Jvm.Cond.methodLink "TallySlateModel" (616 : Nat) ({ cls := "TallySlateModel", name := "two", desc := "(I)V" } : Jvm.MethodName)) ∈ lw_all := lw_g (lw_at lw_m11 215 rfl) rfl
theorem q2779 : (Jvm.Cond.instanceMethod ({ cls := "TallySlateModel", name := "two", desc := "(I)V" } : Jvm.MethodName)) ∈ lw_all := lw_g (lw_at lw_m11 217 rfl) rfl
theorem q2780 : (Jvm.Cond.code ({ cls := "TallySlateModel", name := "two", desc := "(I)V" } : Jvm.MethodName) prog_37_method_81_code (21 : Nat) (Option.none : Option Jvm.ClassFile.FieldType)) ∈ lw_all := lw_g (lw_at lw_m11 218 rfl) rfl
theorem q2781 : (Jvm.Cond.methodLink "TallySlateModel" (637 : Nat) ({ cls := "TallySlateModel", name := "act", desc := "(III)I" } : Jvm.MethodName)) ∈ lw_all := lw_g (lw_at lw_m11 219 rfl) rfl
theorem q2782 : (Jvm.Cond.static ({ cls := "TallySlateModel", name := "act", desc := "(III)I" } : Jvm.MethodName)) ∈ lw_all := lw_g (lw_at lw_m11 220 rfl) rfl
theorem q2783 : (Jvm.Cond.code ({ cls := "TallySlateModel", name := "act", desc := "(III)I" } : Jvm.MethodName) prog_37_method_79_code (3 : Nat) (Option.some Jvm.ClassFile.FieldType.int)) ∈ lw_all := lw_g (lw_at lw_m11 221 rfl) rfl
theorem q2784 : (Jvm.Cond.methodLink "TallySlateModel" (641 : Nat) ({ cls := "TallySlateModel", name := "beside", desc := "(III)I" } : Jvm.MethodName)) ∈ lw_all := lw_g (lw_at lw_m11 222 rfl) rfl
theorem q2786 : (Jvm.Cond.instanceMethod ({ cls := "TallySlateModel", name := "beside", desc := "(III)I" } : Jvm.MethodName)) ∈ lw_all := lw_g (lw_at lw_m11 224 rfl) rfl
theorem q2787 : (Jvm.Cond.code ({ cls := "TallySlateModel", name := "beside", desc := "(III)I" } : Jvm.MethodName) prog_37_method_80_code (4 : Nat) (Option.some Jvm.ClassFile.FieldType.int)) ∈ lw_all := lw_g (lw_at lw_m11 225 rfl) rfl
theorem q2788 : (Jvm.Cond.methodLink "TallySlateModel" (619 : Nat) ({ cls := "TallySlateModel", name := "literal", desc := "(I)V" } : Jvm.MethodName)) ∈ lw_all := lw_g (lw_at lw_m11 226 rfl) rfl
theorem q2790 : (Jvm.Cond.instanceMethod ({ cls := "TallySlateModel", name := "literal", desc := "(I)V" } : Jvm.MethodName)) ∈ lw_all := lw_g (lw_at lw_m11 228 rfl) rfl
theorem q2791 : (Jvm.Cond.code ({ cls := "TallySlateModel", name := "literal", desc := "(I)V" } : Jvm.MethodName) prog_37_method_84_code (5 : Nat) (Option.none : Option Jvm.ClassFile.FieldType)) ∈ lw_all := lw_g (lw_at lw_m11 229 rfl) rfl
theorem q2792 : (Jvm.Cond.methodLink "TallySlateModel" (622 : Nat) ({ cls := "TallySlateModel", name := "index", desc := "()V" } : Jvm.MethodName)) ∈ lw_all := lw_g (lw_at lw_m11 230 rfl) rfl
theorem q2794 : (Jvm.Cond.instanceMethod ({ cls := "TallySlateModel", name := "index", desc := "()V" } : Jvm.MethodName)) ∈ lw_all := lw_g (lw_at lw_m11 232 rfl) rfl
theorem q2795 : (Jvm.Cond.code ({ cls := "TallySlateModel", name := "index", desc := "()V" } : Jvm.MethodName) prog_37_method_85_code (9 : Nat) (Option.none : Option Jvm.ClassFile.FieldType)) ∈ lw_all := lw_g (lw_at lw_m11 233 rfl) rfl
theorem q2796 : (Jvm.Cond.methodLink "TallySlateModel" (610 : Nat) ({ cls := "TallySlateModel", name := "element", desc := "(II)V" } : Jvm.MethodName)) ∈ lw_all := lw_g (lw_at lw_m11 234 rfl) rfl
theorem q2798 : (Jvm.Cond.instanceMethod ({ cls := "TallySlateModel", name := "element", desc := "(II)V" } : Jvm.MethodName)) ∈ lw_all := lw_g (lw_at lw_m11 236 rfl) rfl
theorem q2799 : (Jvm.Cond.code ({ cls := "TallySlateModel", name := "element", desc := "(II)V" } : Jvm.MethodName) prog_37_method_52_code (3 : Nat) (Option.none : Option Jvm.ClassFile.FieldType)) ∈ lw_all := lw_g (lw_at lw_m11 237 rfl) rfl
theorem q2800 : (Jvm.Cond.methodLink "TallySlateModel" (625 : Nat) ({ cls := "TallySlateModel", name := "builtIn", desc := "(II)V" } : Jvm.MethodName)) ∈ lw_all := lw_g (lw_at lw_m11 238 rfl) rfl
theorem q2802 : (Jvm.Cond.instanceMethod ({ cls := "TallySlateModel", name := "builtIn", desc := "(II)V" } : Jvm.MethodName)) ∈ lw_all := lw_g (lw_at lw_m12 0 rfl) rfl
theorem q2803 : (Jvm.Cond.code ({ cls := "TallySlateModel", name := "builtIn", desc := "(II)V" } : Jvm.MethodName) prog_37_method_88_code (6 : Nat) (Option.none : Option Jvm.ClassFile.FieldType)) ∈ lw_all := lw_g (lw_at lw_m12 1 rfl) rfl
theorem q2804 : (Jvm.Cond.methodLink "TallySlateModel" (647 : Nat) ({ cls := "TallySlateModel", name := "suits", desc := "(IIII)Z" } : Jvm.MethodName)) ∈ lw_all := lw_g (lw_at lw_m12 2 rfl) rfl
theorem q2805 : (Jvm.Cond.static ({ cls := "TallySlateModel", name := "suits", desc := "(IIII)Z" } : Jvm.MethodName)) ∈ lw_all := lw_g (lw_at lw_m12 3 rfl) rfl
theorem q2806 : (Jvm.Cond.code ({ cls := "TallySlateModel", name := "suits", desc := "(IIII)Z" } : Jvm.MethodName) prog_37_method_87_code (4 : Nat) (Option.some Jvm.ClassFile.FieldType.boolean)) ∈ lw_all := lw_g (lw_at lw_m12 4 rfl) rfl
theorem q2807 : (Jvm.Cond.methodLink "TallySlateModel" (651 : Nat) ({ cls := "TallySlateModel", name := "makes", desc := "(IIII)V" } : Jvm.MethodName)) ∈ lw_all := lw_g (lw_at lw_m12 5 rfl) rfl
theorem q2809 : (Jvm.Cond.instanceMethod ({ cls := "TallySlateModel", name := "makes", desc := "(IIII)V" } : Jvm.MethodName)) ∈ lw_all := lw_g (lw_at lw_m12 7 rfl) rfl
theorem q2810 : (Jvm.Cond.code ({ cls := "TallySlateModel", name := "makes", desc := "(IIII)V" } : Jvm.MethodName) prog_37_method_90_code (10 : Nat) (Option.none : Option Jvm.ClassFile.FieldType)) ∈ lw_all := lw_g (lw_at lw_m12 8 rfl) rfl
theorem q2811 : (Jvm.Cond.constantLong "TallySlateModel" (663 : Nat) (200 : Int64)) ∈ lw_all := lw_g (lw_at lw_m12 9 rfl) rfl
theorem q2812 : (Jvm.Cond.methodLink "TallySlateModel" (665 : Nat) ({ cls := "TallySlateModel", name := "zeros", desc := "(I)V" } : Jvm.MethodName)) ∈ lw_all := lw_g (lw_at lw_m12 10 rfl) rfl
theorem q2814 : (Jvm.Cond.instanceMethod ({ cls := "TallySlateModel", name := "zeros", desc := "(I)V" } : Jvm.MethodName)) ∈ lw_all := lw_g (lw_at lw_m12 12 rfl) rfl
