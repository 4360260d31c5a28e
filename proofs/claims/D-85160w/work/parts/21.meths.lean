/-! methods, links: printed by gen_names.py -/
set_option maxRecDepth 100000
abbrev MJ0_init : MR := (({ cls := "java/lang/Throwable", name := "<init>", desc := "()V" } : Jvm.MethodName), prog_51_method_1_code, 1, (Option.none : Option Jvm.ClassFile.FieldType), [])
theorem oJ0_init : OKm MJ0_init 0 := ⟨q245, q164, by decide, ⟨by decide, by decide⟩, by decide +kernel⟩
abbrev MJ0_init_2 : MR := (({ cls := "java/lang/Throwable", name := "<init>", desc := "(Ljava/lang/String;)V" } : Jvm.MethodName), prog_51_method_2_code, 2, (Option.none : Option Jvm.ClassFile.FieldType), [])
theorem oJ0_init_2 : OKm MJ0_init_2 1 := ⟨q1503, q164, by decide, ⟨by decide, by decide⟩, by decide +kernel⟩
abbrev MJ1_init : MR := (({ cls := "java/lang/Exception", name := "<init>", desc := "()V" } : Jvm.MethodName), prog_42_method_1_code, 1, (Option.none : Option Jvm.ClassFile.FieldType), [])
theorem oJ1_init : OKm MJ1_init 0 := ⟨q272, q165, by decide, ⟨by decide, by decide⟩, by decide +kernel⟩
abbrev MJ1_init_2 : MR := (({ cls := "java/lang/Exception", name := "<init>", desc := "(Ljava/lang/String;)V" } : Jvm.MethodName), prog_42_method_2_code, 2, (Option.none : Option Jvm.ClassFile.FieldType), [])
theorem oJ1_init_2 : OKm MJ1_init_2 1 := ⟨q1500, q165, by decide, ⟨by decide, by decide⟩, by decide +kernel⟩
abbrev MJ10_init : MR := (({ cls := "java/lang/ArrayIndexOutOfBoundsException", name := "<init>", desc := "(Ljava/lang/String;)V" } : Jvm.MethodName), prog_39_method_2_code, 2, (Option.none : Option Jvm.ClassFile.FieldType), [])
theorem oJ10_init : OKm MJ10_init 1 := ⟨q1491, q208, by decide, ⟨by decide, by decide⟩, by decide +kernel⟩
abbrev MJ11_init : MR := (({ cls := "java/lang/ArithmeticException", name := "<init>", desc := "(Ljava/lang/String;)V" } : Jvm.MethodName), prog_38_method_2_code, 2, (Option.none : Option Jvm.ClassFile.FieldType), [])
theorem oJ11_init : OKm MJ11_init 1 := ⟨q1629, q210, by decide, ⟨by decide, by decide⟩, by decide +kernel⟩
abbrev MJ12_init : MR := (({ cls := "java/lang/NegativeArraySizeException", name := "<init>", desc := "(Ljava/lang/String;)V" } : Jvm.MethodName), prog_45_method_2_code, 2, (Option.none : Option Jvm.ClassFile.FieldType), [])
theorem oJ12_init : OKm MJ12_init 1 := ⟨q1707, q212, by decide, ⟨by decide, by decide⟩, by decide +kernel⟩
abbrev MJ2_init : MR := (({ cls := "java/lang/RuntimeException", name := "<init>", desc := "()V" } : Jvm.MethodName), prog_46_method_1_code, 1, (Option.none : Option Jvm.ClassFile.FieldType), [])
theorem oJ2_init : OKm MJ2_init 0 := ⟨q269, q166, by decide, ⟨by decide, by decide⟩, by decide +kernel⟩
abbrev MJ2_init_2 : MR := (({ cls := "java/lang/RuntimeException", name := "<init>", desc := "(Ljava/lang/String;)V" } : Jvm.MethodName), prog_46_method_2_code, 2, (Option.none : Option Jvm.ClassFile.FieldType), [])
theorem oJ2_init_2 : OKm MJ2_init_2 1 := ⟨q1497, q166, by decide, ⟨by decide, by decide⟩, by decide +kernel⟩
abbrev MJ3_indexOf : MR := (({ cls := "java/lang/String", name := "indexOf", desc := "(I)I" } : Jvm.MethodName), prog_47_method_79_code, 2, (Option.some Jvm.ClassFile.FieldType.int), [])
theorem oJ3_indexOf : OKm MJ3_indexOf 1 := ⟨q643, q179, by decide, ⟨by decide, by decide⟩, by decide +kernel⟩
abbrev MJ3_indexOf_2 : MR := (({ cls := "java/lang/String", name := "indexOf", desc := "(II)I" } : Jvm.MethodName), prog_47_method_80_code, 3, (Option.some Jvm.ClassFile.FieldType.int), [])
theorem oJ3_indexOf_2 : OKm MJ3_indexOf_2 2 := ⟨q647, q179, by decide, ⟨by decide, by decide⟩, by decide +kernel⟩
abbrev MJ3_isLatin1 : MR := (({ cls := "java/lang/String", name := "isLatin1", desc := "()Z" } : Jvm.MethodName), prog_47_method_154_code, 1, (Option.some Jvm.ClassFile.FieldType.boolean), [])
theorem oJ3_isLatin1 : OKm MJ3_isLatin1 0 := ⟨q651, q179, by decide, ⟨by decide, by decide⟩, by decide +kernel⟩
abbrev MJ3_length : MR := (({ cls := "java/lang/String", name := "length", desc := "()I" } : Jvm.MethodName), prog_47_method_54_code, 1, (Option.some Jvm.ClassFile.FieldType.int), [])
theorem oJ3_length : OKm MJ3_length 0 := ⟨q657, q179, by decide, ⟨by decide, by decide⟩, by decide +kernel⟩
abbrev MJ3_coder : MR := (({ cls := "java/lang/String", name := "coder", desc := "()B" } : Jvm.MethodName), prog_47_method_152_code, 1, (Option.some Jvm.ClassFile.FieldType.byte), [])
theorem oJ3_coder : OKm MJ3_coder 0 := ⟨q661, q179, by decide, ⟨by decide, by decide⟩, by decide +kernel⟩
abbrev MJ3_checkBoundsBeginEnd : MR := (({ cls := "java/lang/String", name := "checkBoundsBeginEnd", desc := "(III)V" } : Jvm.MethodName), prog_47_method_158_code, 3, (Option.none : Option Jvm.ClassFile.FieldType), [])
theorem oJ3_checkBoundsBeginEnd : OKm MJ3_checkBoundsBeginEnd 3 := ⟨q694, q179, by decide, ⟨by decide, by decide⟩, by decide +kernel⟩
abbrev MJ3_charAt : MR := (({ cls := "java/lang/String", name := "charAt", desc := "(I)C" } : Jvm.MethodName), prog_47_method_56_code, 2, (Option.some Jvm.ClassFile.FieldType.char), [])
theorem oJ3_charAt : OKm MJ3_charAt 1 := ⟨q735, q179, by decide, ⟨by decide, by decide⟩, by decide +kernel⟩
abbrev MJ3_checkIndex : MR := (({ cls := "java/lang/String", name := "checkIndex", desc := "(II)V" } : Jvm.MethodName), prog_47_method_155_code, 2, (Option.none : Option Jvm.ClassFile.FieldType), [])
theorem oJ3_checkIndex : OKm MJ3_checkIndex 2 := ⟨q741, q179, by decide, ⟨by decide, by decide⟩, by decide +kernel⟩
abbrev MJ4_indexOf : MR := (({ cls := "java/lang/StringLatin1", name := "indexOf", desc := "([BIII)I" } : Jvm.MethodName), prog_48_method_22_code, 4, (Option.some Jvm.ClassFile.FieldType.int), [])
theorem oJ4_indexOf : OKm MJ4_indexOf 4 := ⟨q664, q180, by decide, ⟨by decide, by decide⟩, by decide +kernel⟩
abbrev MJ4_canEncode : MR := (({ cls := "java/lang/StringLatin1", name := "canEncode", desc := "(I)Z" } : Jvm.MethodName), prog_48_method_4_code, 1, (Option.some Jvm.ClassFile.FieldType.boolean), [])
theorem oJ4_canEncode : OKm MJ4_canEncode 1 := ⟨q667, q180, by decide, ⟨by decide, by decide⟩, by decide +kernel⟩
abbrev MJ4_indexOfChar : MR := (({ cls := "java/lang/StringLatin1", name := "indexOfChar", desc := "([BIII)I" } : Jvm.MethodName), prog_48_method_23_code, 6, (Option.some Jvm.ClassFile.FieldType.int), [])
theorem oJ4_indexOfChar : OKm MJ4_indexOfChar 4 := ⟨q676, q180, by decide, ⟨by decide, by decide⟩, by decide +kernel⟩
abbrev MJ4_charAt : MR := (({ cls := "java/lang/StringLatin1", name := "charAt", desc := "([BI)C" } : Jvm.MethodName), prog_48_method_2_code, 2, (Option.some Jvm.ClassFile.FieldType.char), [])
theorem oJ4_charAt : OKm MJ4_charAt 2 := ⟨q738, q180, by decide, ⟨by decide, by decide⟩, by decide +kernel⟩
abbrev MJ5_max : MR := (({ cls := "java/lang/Math", name := "max", desc := "(II)I" } : Jvm.MethodName), prog_44_method_65_code, 2, (Option.some Jvm.ClassFile.FieldType.int), [])
theorem oJ5_max : OKm MJ5_max 2 := ⟨q670, q181, by decide, ⟨by decide, by decide⟩, by decide +kernel⟩
abbrev MJ5_min : MR := (({ cls := "java/lang/Math", name := "min", desc := "(II)I" } : Jvm.MethodName), prog_44_method_69_code, 2, (Option.some Jvm.ClassFile.FieldType.int), [])
theorem oJ5_min : OKm MJ5_min 2 := ⟨q673, q181, by decide, ⟨by decide, by decide⟩, by decide +kernel⟩
abbrev MJ5_max_2 : MR := (({ cls := "java/lang/Math", name := "max", desc := "(JJ)J" } : Jvm.MethodName), prog_44_method_66_code, 4, (Option.some Jvm.ClassFile.FieldType.long), [])
theorem oJ5_max_2 : OKm MJ5_max_2 2 := ⟨q1874, q181, by decide, ⟨by decide, by decide⟩, by decide +kernel⟩
abbrev MJ6_indexOf : MR := (({ cls := "java/lang/StringUTF16", name := "indexOf", desc := "([BIII)I" } : Jvm.MethodName), prog_49_method_40_code, 4, (Option.some Jvm.ClassFile.FieldType.int), [])
theorem oJ6_indexOf : OKm MJ6_indexOf 4 := ⟨q679, q182, by decide, ⟨by decide, by decide⟩, by decide +kernel⟩
abbrev MJ6_indexOfChar : MR := (({ cls := "java/lang/StringUTF16", name := "indexOfChar", desc := "([BIII)I" } : Jvm.MethodName), prog_49_method_47_code, 4, (Option.some Jvm.ClassFile.FieldType.int), [])
theorem oJ6_indexOfChar : OKm MJ6_indexOfChar 4 := ⟨q685, q182, by decide, ⟨by decide, by decide⟩, by decide +kernel⟩
abbrev MJ6_checkBoundsBeginEnd : MR := (({ cls := "java/lang/StringUTF16", name := "checkBoundsBeginEnd", desc := "(II[B)V" } : Jvm.MethodName), prog_49_method_93_code, 3, (Option.none : Option Jvm.ClassFile.FieldType), [])
theorem oJ6_checkBoundsBeginEnd : OKm MJ6_checkBoundsBeginEnd 3 := ⟨q688, q182, by decide, ⟨by decide, by decide⟩, by decide +kernel⟩
abbrev MJ6_length : MR := (({ cls := "java/lang/StringUTF16", name := "length", desc := "([B)I" } : Jvm.MethodName), prog_49_method_6_code, 1, (Option.some Jvm.ClassFile.FieldType.int), [])
theorem oJ6_length : OKm MJ6_length 1 := ⟨q691, q182, by decide, ⟨by decide, by decide⟩, by decide +kernel⟩
abbrev MJ6_indexOfCharUnsafe : MR := (({ cls := "java/lang/StringUTF16", name := "indexOfCharUnsafe", desc := "([BIII)I" } : Jvm.MethodName), prog_49_method_48_code, 5, (Option.some Jvm.ClassFile.FieldType.int), [])
theorem oJ6_indexOfCharUnsafe : OKm MJ6_indexOfCharUnsafe 4 := ⟨q702, q182, by decide, ⟨by decide, by decide⟩, by decide +kernel⟩
abbrev MJ6_getChar : MR := (({ cls := "java/lang/StringUTF16", name := "getChar", desc := "([BI)C" } : Jvm.MethodName), prog_49_method_5_code, 2, (Option.some Jvm.ClassFile.FieldType.char), [])
theorem oJ6_getChar : OKm MJ6_getChar 2 := ⟨q705, q182, by decide, ⟨by decide, by decide⟩, by decide +kernel⟩
abbrev MJ6_indexOfSupplementary : MR := (({ cls := "java/lang/StringUTF16", name := "indexOfSupplementary", desc := "([BIII)I" } : Jvm.MethodName), prog_49_method_49_code, 7, (Option.some Jvm.ClassFile.FieldType.int), [])
theorem oJ6_indexOfSupplementary : OKm MJ6_indexOfSupplementary 4 := ⟨q714, q182, by decide, ⟨by decide, by decide⟩, by decide +kernel⟩
abbrev MJ6_charAt : MR := (({ cls := "java/lang/StringUTF16", name := "charAt", desc := "([BI)C" } : Jvm.MethodName), prog_49_method_83_code, 2, (Option.some Jvm.ClassFile.FieldType.char), [])
theorem oJ6_charAt : OKm MJ6_charAt 2 := ⟨q747, q182, by decide, ⟨by decide, by decide⟩, by decide +kernel⟩
abbrev MJ6_checkIndex : MR := (({ cls := "java/lang/StringUTF16", name := "checkIndex", desc := "(I[B)V" } : Jvm.MethodName), prog_49_method_91_code, 2, (Option.none : Option Jvm.ClassFile.FieldType), [])
theorem oJ6_checkIndex : OKm MJ6_checkIndex 2 := ⟨q750, q182, by decide, ⟨by decide, by decide⟩, by decide +kernel⟩
abbrev MJ7_checkFromToIndex : MR := (({ cls := "jdk/internal/util/Preconditions", name := "checkFromToIndex", desc := "(IIILjava/util/function/BiFunction;)I" } : Jvm.MethodName), prog_52_method_12_code, 4, (Option.some Jvm.ClassFile.FieldType.int), [])
theorem oJ7_checkFromToIndex : OKm MJ7_checkFromToIndex 4 := ⟨q699, q183, by decide, ⟨by decide, by decide⟩, by decide +kernel⟩
abbrev MJ7_checkIndex : MR := (({ cls := "jdk/internal/util/Preconditions", name := "checkIndex", desc := "(IILjava/util/function/BiFunction;)I" } : Jvm.MethodName), prog_52_method_11_code, 3, (Option.some Jvm.ClassFile.FieldType.int), [])
theorem oJ7_checkIndex : OKm MJ7_checkIndex 3 := ⟨q744, q183, by decide, ⟨by decide, by decide⟩, by decide +kernel⟩
abbrev MJ8_isValidCodePoint : MR := (({ cls := "java/lang/Character", name := "isValidCodePoint", desc := "(I)Z" } : Jvm.MethodName), prog_40_method_11_code, 2, (Option.some Jvm.ClassFile.FieldType.boolean), [])
theorem oJ8_isValidCodePoint : OKm MJ8_isValidCodePoint 1 := ⟨q717, q184, by decide, ⟨by decide, by decide⟩, by decide +kernel⟩
abbrev MJ8_highSurrogate : MR := (({ cls := "java/lang/Character", name := "highSurrogate", desc := "(I)C" } : Jvm.MethodName), prog_40_method_28_code, 1, (Option.some Jvm.ClassFile.FieldType.char), [])
theorem oJ8_highSurrogate : OKm MJ8_highSurrogate 1 := ⟨q720, q184, by decide, ⟨by decide, by decide⟩, by decide +kernel⟩
abbrev MJ8_lowSurrogate : MR := (({ cls := "java/lang/Character", name := "lowSurrogate", desc := "(I)C" } : Jvm.MethodName), prog_40_method_29_code, 1, (Option.some Jvm.ClassFile.FieldType.char), [])
theorem oJ8_lowSurrogate : OKm MJ8_lowSurrogate 1 := ⟨q724, q184, by decide, ⟨by decide, by decide⟩, by decide +kernel⟩
abbrev MJ9_init : MR := (({ cls := "java/lang/IndexOutOfBoundsException", name := "<init>", desc := "(Ljava/lang/String;)V" } : Jvm.MethodName), prog_43_method_2_code, 2, (Option.none : Option Jvm.ClassFile.FieldType), [])
theorem oJ9_init : OKm MJ9_init 1 := ⟨q1494, q207, by decide, ⟨by decide, by decide⟩, by decide +kernel⟩
abbrev MX0_init : MR := (({ cls := "TallySlate", name := "<init>", desc := "()V" } : Jvm.MethodName), prog_1_method_3_code, 1, (Option.none : Option Jvm.ClassFile.FieldType), [])
theorem oX0_init : OKm MX0_init 0 := ⟨q217, q163, by decide, ⟨by decide, by decide⟩, by decide +kernel⟩
abbrev MX0_feed : MR := (({ cls := "TallySlate", name := "feed", desc := "(IIIII)I" } : Jvm.MethodName), prog_1_method_5_code, 6, (Option.some Jvm.ClassFile.FieldType.int), [])
theorem oX0_feed : OKm MX0_feed 5 := ⟨q554, q163, by decide, ⟨by decide, by decide⟩, by decide +kernel⟩
abbrev MX0_lay : MR := (({ cls := "TallySlate", name := "lay", desc := "(I)V" } : Jvm.MethodName), prog_1_method_4_code, 3, (Option.none : Option Jvm.ClassFile.FieldType), [])
theorem oX0_lay : OKm MX0_lay 1 := ⟨q558, q163, by decide, ⟨by decide, by decide⟩, by decide +kernel⟩
abbrev MX0_load : MR := (({ cls := "TallySlate", name := "load", desc := "(I)I" } : Jvm.MethodName), prog_1_method_6_code, 3, (Option.some Jvm.ClassFile.FieldType.int), [((41 : Nat), (93 : Nat), (96 : Nat), (21 : Nat))])
theorem oX0_load : OKm MX0_load 1 := ⟨q562, q163, by decide, ⟨by decide, by decide⟩, by decide +kernel⟩
abbrev MX0_fault : MR := (({ cls := "TallySlate", name := "fault", desc := "(I)I" } : Jvm.MethodName), prog_1_method_7_code, 2, (Option.some Jvm.ClassFile.FieldType.int), [])
theorem oX0_fault : OKm MX0_fault 1 := ⟨q1292, q163, by decide, ⟨by decide, by decide⟩, by decide +kernel⟩
abbrev MX0_function : MR := (({ cls := "TallySlate", name := "function", desc := "(II)I" } : Jvm.MethodName), prog_1_method_9_code, 4, (Option.some Jvm.ClassFile.FieldType.int), [])
theorem oX0_function : OKm MX0_function 2 := ⟨q1296, q163, by decide, ⟨by decide, by decide⟩, by decide +kernel⟩
abbrev MX0_definition : MR := (({ cls := "TallySlate", name := "definition", desc := "(I)LTallySlate$Definition;" } : Jvm.MethodName), prog_1_method_8_code, 2, (Option.some (Jvm.ClassFile.FieldType.object "TallySlate$Definition")), [])
theorem oX0_definition : OKm MX0_definition 1 := ⟨q1300, q163, by decide, ⟨by decide, by decide⟩, by decide +kernel⟩
abbrev MX0_run : MR := (({ cls := "TallySlate", name := "run", desc := "(III)I" } : Jvm.MethodName), prog_1_method_11_code, 7, (Option.some Jvm.ClassFile.FieldType.int), [((73 : Nat), (81 : Nat), (84 : Nat), (124 : Nat))])
theorem oX0_run : OKm MX0_run 3 := ⟨q1304, q163, by decide, ⟨by decide, by decide⟩, by decide +kernel⟩
abbrev MX0_isShelf : MR := (({ cls := "TallySlate", name := "isShelf", desc := "(I)Z" } : Jvm.MethodName), prog_1_method_10_code, 1, (Option.some Jvm.ClassFile.FieldType.boolean), [])
theorem oX0_isShelf : OKm MX0_isShelf 1 := ⟨q1308, q163, by decide, ⟨by decide, by decide⟩, by decide +kernel⟩
abbrev MX0_alike : MR := (({ cls := "TallySlate", name := "alike", desc := "(ILTallySlate$Thing;ILTallySlate$Thing;)Z" } : Jvm.MethodName), prog_1_method_2_code, 4, (Option.some Jvm.ClassFile.FieldType.boolean), [])
theorem oX0_alike : OKm MX0_alike 4 := ⟨q1902, q163, by decide, ⟨by decide, by decide⟩, by decide +kernel⟩
abbrev MX0_trouble : MR := (({ cls := "TallySlate", name := "trouble", desc := "(I)I" } : Jvm.MethodName), prog_1_method_12_code, 2, (Option.some Jvm.ClassFile.FieldType.int), [])
theorem oX0_trouble : OKm MX0_trouble 1 := ⟨q2063, q163, by decide, ⟨by decide, by decide⟩, by decide +kernel⟩
abbrev MX0_out : MR := (({ cls := "TallySlate", name := "out", desc := "(I)I" } : Jvm.MethodName), prog_1_method_13_code, 2, (Option.some Jvm.ClassFile.FieldType.int), [])
theorem oX0_out : OKm MX0_out 1 := ⟨q2067, q163, by decide, ⟨by decide, by decide⟩, by decide +kernel⟩
abbrev MX0_outs : MR := (({ cls := "TallySlate", name := "outs", desc := "()I" } : Jvm.MethodName), prog_1_method_14_code, 1, (Option.some Jvm.ClassFile.FieldType.int), [])
theorem oX0_outs : OKm MX0_outs 0 := ⟨q2071, q163, by decide, ⟨by decide, by decide⟩, by decide +kernel⟩
abbrev MX0_show : MR := (({ cls := "TallySlate", name := "show", desc := "(I)I" } : Jvm.MethodName), prog_1_method_17_code, 2, (Option.some Jvm.ClassFile.FieldType.int), [])
theorem oX0_show : OKm MX0_show 1 := ⟨q2075, q163, by decide, ⟨by decide, by decide⟩, by decide +kernel⟩
abbrev MX0_has : MR := (({ cls := "TallySlate", name := "has", desc := "(I)Z" } : Jvm.MethodName), prog_1_method_15_code, 2, (Option.some Jvm.ClassFile.FieldType.boolean), [])
theorem oX0_has : OKm MX0_has 1 := ⟨q2079, q163, by decide, ⟨by decide, by decide⟩, by decide +kernel⟩
abbrev MX0_thingOn : MR := (({ cls := "TallySlate", name := "thingOn", desc := "(I)LTallySlate$Thing;" } : Jvm.MethodName), prog_1_method_16_code, 2, (Option.some (Jvm.ClassFile.FieldType.object "TallySlate$Thing")), [])
theorem oX0_thingOn : OKm MX0_thingOn 1 := ⟨q2083, q163, by decide, ⟨by decide, by decide⟩, by decide +kernel⟩
abbrev MX0_set : MR := (({ cls := "TallySlate", name := "set", desc := "(II)Z" } : Jvm.MethodName), prog_1_method_18_code, 3, (Option.some Jvm.ClassFile.FieldType.boolean), [])
theorem oX0_set : OKm MX0_set 2 := ⟨q2089, q163, by decide, ⟨by decide, by decide⟩, by decide +kernel⟩
abbrev MX0_add : MR := (({ cls := "TallySlate", name := "add", desc := "(II)Z" } : Jvm.MethodName), prog_1_method_19_code, 6, (Option.some Jvm.ClassFile.FieldType.boolean), [])
theorem oX0_add : OKm MX0_add 2 := ⟨q2094, q163, by decide, ⟨by decide, by decide⟩, by decide +kernel⟩
abbrev MX0_clear : MR := (({ cls := "TallySlate", name := "clear", desc := "(I)Z" } : Jvm.MethodName), prog_1_method_20_code, 2, (Option.some Jvm.ClassFile.FieldType.boolean), [])
theorem oX0_clear : OKm MX0_clear 1 := ⟨q2101, q163, by decide, ⟨by decide, by decide⟩, by decide +kernel⟩
abbrev MX0_kind : MR := (({ cls := "TallySlate", name := "kind", desc := "(I)I" } : Jvm.MethodName), prog_1_method_21_code, 2, (Option.some Jvm.ClassFile.FieldType.int), [])
theorem oX0_kind : OKm MX0_kind 1 := ⟨q2105, q163, by decide, ⟨by decide, by decide⟩, by decide +kernel⟩
abbrev MX0_size : MR := (({ cls := "TallySlate", name := "size", desc := "(II)I" } : Jvm.MethodName), prog_1_method_22_code, 5, (Option.some Jvm.ClassFile.FieldType.int), [])
theorem oX0_size : OKm MX0_size 2 := ⟨q2110, q163, by decide, ⟨by decide, by decide⟩, by decide +kernel⟩
abbrev MX0_cell : MR := (({ cls := "TallySlate", name := "cell", desc := "(III)I" } : Jvm.MethodName), prog_1_method_24_code, 8, (Option.some Jvm.ClassFile.FieldType.int), [])
theorem oX0_cell : OKm MX0_cell 3 := ⟨q2117, q163, by decide, ⟨by decide, by decide⟩, by decide +kernel⟩
abbrev MX0_intOf : MR := (({ cls := "TallySlate", name := "intOf", desc := "([II)I" } : Jvm.MethodName), prog_1_method_23_code, 2, (Option.some Jvm.ClassFile.FieldType.int), [])
theorem oX0_intOf : OKm MX0_intOf 2 := ⟨q2120, q163, by decide, ⟨by decide, by decide⟩, by decide +kernel⟩
abbrev MX0_same : MR := (({ cls := "TallySlate", name := "same", desc := "(II)Z" } : Jvm.MethodName), prog_1_method_25_code, 3, (Option.some Jvm.ClassFile.FieldType.boolean), [])
theorem oX0_same : OKm MX0_same 2 := ⟨q2125, q163, by decide, ⟨by decide, by decide⟩, by decide +kernel⟩
abbrev MX0_mark : MR := (({ cls := "TallySlate", name := "mark", desc := "()I" } : Jvm.MethodName), prog_1_method_26_code, 1, (Option.some Jvm.ClassFile.FieldType.int), [])
theorem oX0_mark : OKm MX0_mark 0 := ⟨q2134, q163, by decide, ⟨by decide, by decide⟩, by decide +kernel⟩
abbrev MX0_back : MR := (({ cls := "TallySlate", name := "back", desc := "()Z" } : Jvm.MethodName), prog_1_method_27_code, 1, (Option.some Jvm.ClassFile.FieldType.boolean), [])
theorem oX0_back : OKm MX0_back 0 := ⟨q2143, q163, by decide, ⟨by decide, by decide⟩, by decide +kernel⟩
abbrev MX0_sum : MR := (({ cls := "TallySlate", name := "sum", desc := "()J" } : Jvm.MethodName), prog_1_method_28_code, 4, (Option.some Jvm.ClassFile.FieldType.long), [])
theorem oX0_sum : OKm MX0_sum 0 := ⟨q2147, q163, by decide, ⟨by decide, by decide⟩, by decide +kernel⟩
abbrev MX0_joined : MR := (({ cls := "TallySlate", name := "joined", desc := "(JJ)J" } : Jvm.MethodName), prog_1_method_1_code, 4, (Option.some Jvm.ClassFile.FieldType.long), [])
theorem oX0_joined : OKm MX0_joined 2 := ⟨q2151, q163, by decide, ⟨by decide, by decide⟩, by decide +kernel⟩
abbrev MX1_init : MR := (({ cls := "TallySlate$Fault", name := "<init>", desc := "()V" } : Jvm.MethodName), prog_9_method_1_code, 1, (Option.none : Option Jvm.ClassFile.FieldType), [])
theorem oX1_init : OKm MX1_init 0 := ⟨q266, q167, by decide, ⟨by decide, by decide⟩, by decide +kernel⟩
abbrev MX10_init : MR := (({ cls := "TallySlateModel", name := "<init>", desc := "()V" } : Jvm.MethodName), prog_37_method_1_code, 2, (Option.none : Option Jvm.ClassFile.FieldType), [])
theorem oX10_init : OKm MX10_init 0 := ⟨q2183, q176, by decide, ⟨by decide, by decide⟩, by decide +kernel⟩
abbrev MX10_feed : MR := (({ cls := "TallySlateModel", name := "feed", desc := "(IIIII)I" } : Jvm.MethodName), prog_37_method_3_code, 6, (Option.some Jvm.ClassFile.FieldType.int), [])
theorem oX10_feed : OKm MX10_feed 5 := ⟨q2501, q176, by decide, ⟨by decide, by decide⟩, by decide +kernel⟩
abbrev MX10_four : MR := (({ cls := "TallySlateModel", name := "four", desc := "(I)V" } : Jvm.MethodName), prog_37_method_2_code, 3, (Option.none : Option Jvm.ClassFile.FieldType), [])
theorem oX10_four : OKm MX10_four 1 := ⟨q2505, q176, by decide, ⟨by decide, by decide⟩, by decide +kernel⟩
abbrev MX10_load : MR := (({ cls := "TallySlateModel", name := "load", desc := "(I)I" } : Jvm.MethodName), prog_37_method_44_code, 2, (Option.some Jvm.ClassFile.FieldType.int), [])
theorem oX10_load : OKm MX10_load 1 := ⟨q2509, q176, by decide, ⟨by decide, by decide⟩, by decide +kernel⟩
abbrev MX10_breaks : MR := (({ cls := "TallySlateModel", name := "breaks", desc := "(II)V" } : Jvm.MethodName), prog_37_method_11_code, 3, (Option.none : Option Jvm.ClassFile.FieldType), [])
theorem oX10_breaks : OKm MX10_breaks 2 := ⟨q2513, q176, by decide, ⟨by decide, by decide⟩, by decide +kernel⟩
abbrev MX10_token : MR := (({ cls := "TallySlateModel", name := "token", desc := "(I)V" } : Jvm.MethodName), prog_37_method_8_code, 4, (Option.none : Option Jvm.ClassFile.FieldType), [])
theorem oX10_token : OKm MX10_token 1 := ⟨q2517, q176, by decide, ⟨by decide, by decide⟩, by decide +kernel⟩
abbrev MX10_begin : MR := (({ cls := "TallySlateModel", name := "begin", desc := "(I)I" } : Jvm.MethodName), prog_37_method_7_code, 5, (Option.some Jvm.ClassFile.FieldType.int), [])
theorem oX10_begin : OKm MX10_begin 1 := ⟨q2521, q176, by decide, ⟨by decide, by decide⟩, by decide +kernel⟩
abbrev MX10_byteAt : MR := (({ cls := "TallySlateModel", name := "byteAt", desc := "(I)I" } : Jvm.MethodName), prog_37_method_4_code, 2, (Option.some Jvm.ClassFile.FieldType.int), [])
theorem oX10_byteAt : OKm MX10_byteAt 1 := ⟨q2525, q176, by decide, ⟨by decide, by decide⟩, by decide +kernel⟩
abbrev MX10_isLetter : MR := (({ cls := "TallySlateModel", name := "isLetter", desc := "(I)Z" } : Jvm.MethodName), prog_37_method_5_code, 1, (Option.some Jvm.ClassFile.FieldType.boolean), [])
theorem oX10_isLetter : OKm MX10_isLetter 1 := ⟨q2528, q176, by decide, ⟨by decide, by decide⟩, by decide +kernel⟩
abbrev MX10_isDigit : MR := (({ cls := "TallySlateModel", name := "isDigit", desc := "(I)Z" } : Jvm.MethodName), prog_37_method_6_code, 1, (Option.some Jvm.ClassFile.FieldType.boolean), [])
theorem oX10_isDigit : OKm MX10_isDigit 1 := ⟨q2533, q176, by decide, ⟨by decide, by decide⟩, by decide +kernel⟩
abbrev MX10_signAt : MR := (({ cls := "TallySlateModel", name := "signAt", desc := "(I)I" } : Jvm.MethodName), prog_37_method_9_code, 4, (Option.some Jvm.ClassFile.FieldType.int), [])
theorem oX10_signAt : OKm MX10_signAt 1 := ⟨q2540, q176, by decide, ⟨by decide, by decide⟩, by decide +kernel⟩
abbrev MX10_textOf : MR := (({ cls := "TallySlateModel", name := "textOf", desc := "()V" } : Jvm.MethodName), prog_37_method_26_code, 1, (Option.none : Option Jvm.ClassFile.FieldType), [])
theorem oX10_textOf : OKm MX10_textOf 0 := ⟨q2547, q176, by decide, ⟨by decide, by decide⟩, by decide +kernel⟩
abbrev MX10_word : MR := (({ cls := "TallySlateModel", name := "word", desc := "(I)V" } : Jvm.MethodName), prog_37_method_19_code, 2, (Option.none : Option Jvm.ClassFile.FieldType), [])
theorem oX10_word : OKm MX10_word 1 := ⟨q2551, q176, by decide, ⟨by decide, by decide⟩, by decide +kernel⟩
abbrev MX10_isWord : MR := (({ cls := "TallySlateModel", name := "isWord", desc := "(I)Z" } : Jvm.MethodName), prog_37_method_14_code, 2, (Option.some Jvm.ClassFile.FieldType.boolean), [])
theorem oX10_isWord : OKm MX10_isWord 1 := ⟨q2555, q176, by decide, ⟨by decide, by decide⟩, by decide +kernel⟩
abbrev MX10_take : MR := (({ cls := "TallySlateModel", name := "take", desc := "()V" } : Jvm.MethodName), prog_37_method_10_code, 1, (Option.none : Option Jvm.ClassFile.FieldType), [])
theorem oX10_take : OKm MX10_take 0 := ⟨q2559, q176, by decide, ⟨by decide, by decide⟩, by decide +kernel⟩
abbrev MX10_wrong : MR := (({ cls := "TallySlateModel", name := "wrong", desc := "()V" } : Jvm.MethodName), prog_37_method_12_code, 1, (Option.none : Option Jvm.ClassFile.FieldType), [])
theorem oX10_wrong : OKm MX10_wrong 0 := ⟨q2563, q176, by decide, ⟨by decide, by decide⟩, by decide +kernel⟩
abbrev MX10_function : MR := (({ cls := "TallySlateModel", name := "function", desc := "()V" } : Jvm.MethodName), prog_37_method_28_code, 4, (Option.none : Option Jvm.ClassFile.FieldType), [])
theorem oX10_function : OKm MX10_function 0 := ⟨q2567, q176, by decide, ⟨by decide, by decide⟩, by decide +kernel⟩
abbrev MX10_isName : MR := (({ cls := "TallySlateModel", name := "isName", desc := "()Z" } : Jvm.MethodName), prog_37_method_16_code, 1, (Option.some Jvm.ClassFile.FieldType.boolean), [])
theorem oX10_isName : OKm MX10_isName 0 := ⟨q2571, q176, by decide, ⟨by decide, by decide⟩, by decide +kernel⟩
abbrev MX10_wordHere : MR := (({ cls := "TallySlateModel", name := "wordHere", desc := "()I" } : Jvm.MethodName), prog_37_method_15_code, 2, (Option.some Jvm.ClassFile.FieldType.int), [])
theorem oX10_wordHere : OKm MX10_wordHere 0 := ⟨q2575, q176, by decide, ⟨by decide, by decide⟩, by decide +kernel⟩
abbrev MX10_isShelf : MR := (({ cls := "TallySlateModel", name := "isShelf", desc := "(J)Z" } : Jvm.MethodName), prog_37_method_24_code, 2, (Option.some Jvm.ClassFile.FieldType.boolean), [])
theorem oX10_isShelf : OKm MX10_isShelf 1 := ⟨q2578, q176, by decide, ⟨by decide, by decide⟩, by decide +kernel⟩
abbrev MX10_parameters : MR := (({ cls := "TallySlateModel", name := "parameters", desc := "()V" } : Jvm.MethodName), prog_37_method_29_code, 4, (Option.none : Option Jvm.ClassFile.FieldType), [])
theorem oX10_parameters : OKm MX10_parameters 0 := ⟨q2583, q176, by decide, ⟨by decide, by decide⟩, by decide +kernel⟩
abbrev MX10_opens : MR := (({ cls := "TallySlateModel", name := "opens", desc := "(I)V" } : Jvm.MethodName), prog_37_method_18_code, 2, (Option.none : Option Jvm.ClassFile.FieldType), [])
theorem oX10_opens : OKm MX10_opens 1 := ⟨q2587, q176, by decide, ⟨by decide, by decide⟩, by decide +kernel⟩
abbrev MX10_isSign : MR := (({ cls := "TallySlateModel", name := "isSign", desc := "(I)Z" } : Jvm.MethodName), prog_37_method_13_code, 2, (Option.some Jvm.ClassFile.FieldType.boolean), [])
theorem oX10_isSign : OKm MX10_isSign 1 := ⟨q2591, q176, by decide, ⟨by decide, by decide⟩, by decide +kernel⟩
abbrev MX10_sign : MR := (({ cls := "TallySlateModel", name := "sign", desc := "(I)V" } : Jvm.MethodName), prog_37_method_17_code, 2, (Option.none : Option Jvm.ClassFile.FieldType), [])
theorem oX10_sign : OKm MX10_sign 1 := ⟨q2595, q176, by decide, ⟨by decide, by decide⟩, by decide +kernel⟩
abbrev MX10_here : MR := (({ cls := "TallySlateModel", name := "here", desc := "()I" } : Jvm.MethodName), prog_37_method_22_code, 1, (Option.some Jvm.ClassFile.FieldType.int), [])
theorem oX10_here : OKm MX10_here 0 := ⟨q2599, q176, by decide, ⟨by decide, by decide⟩, by decide +kernel⟩
abbrev MX10_block : MR := (({ cls := "TallySlateModel", name := "block", desc := "(III)V" } : Jvm.MethodName), prog_37_method_27_code, 4, (Option.none : Option Jvm.ClassFile.FieldType), [])
theorem oX10_block : OKm MX10_block 3 := ⟨q2603, q176, by decide, ⟨by decide, by decide⟩, by decide +kernel⟩
abbrev MX10_closes : MR := (({ cls := "TallySlateModel", name := "closes", desc := "()V" } : Jvm.MethodName), prog_37_method_30_code, 3, (Option.none : Option Jvm.ClassFile.FieldType), [])
theorem oX10_closes : OKm MX10_closes 0 := ⟨q2607, q176, by decide, ⟨by decide, by decide⟩, by decide +kernel⟩
abbrev MX10_order : MR := (({ cls := "TallySlateModel", name := "order", desc := "(IIII)I" } : Jvm.MethodName), prog_37_method_21_code, 6, (Option.some Jvm.ClassFile.FieldType.int), [])
theorem oX10_order : OKm MX10_order 4 := ⟨q2611, q176, by decide, ⟨by decide, by decide⟩, by decide +kernel⟩
abbrev MX10_name : MR := (({ cls := "TallySlateModel", name := "name", desc := "()I" } : Jvm.MethodName), prog_37_method_25_code, 2, (Option.some Jvm.ClassFile.FieldType.int), [])
theorem oX10_name : OKm MX10_name 0 := ⟨q2615, q176, by decide, ⟨by decide, by decide⟩, by decide +kernel⟩
abbrev MX10_statement : MR := (({ cls := "TallySlateModel", name := "statement", desc := "()V" } : Jvm.MethodName), prog_37_method_31_code, 5, (Option.none : Option Jvm.ClassFile.FieldType), [])
theorem oX10_statement : OKm MX10_statement 0 := ⟨q2619, q176, by decide, ⟨by decide, by decide⟩, by decide +kernel⟩
abbrev MX10_isBracketBehind : MR := (({ cls := "TallySlateModel", name := "isBracketBehind", desc := "()Z" } : Jvm.MethodName), prog_37_method_20_code, 1, (Option.some Jvm.ClassFile.FieldType.boolean), [])
theorem oX10_isBracketBehind : OKm MX10_isBracketBehind 0 := ⟨q2623, q176, by decide, ⟨by decide, by decide⟩, by decide +kernel⟩
abbrev MX10_expression : MR := (({ cls := "TallySlateModel", name := "expression", desc := "(Z)V" } : Jvm.MethodName), prog_37_method_37_code, 4, (Option.none : Option Jvm.ClassFile.FieldType), [])
theorem oX10_expression : OKm MX10_expression 1 := ⟨q2627, q176, by decide, ⟨by decide, by decide⟩, by decide +kernel⟩
abbrev MX10_starts : MR := (({ cls := "TallySlateModel", name := "starts", desc := "()Z" } : Jvm.MethodName), prog_37_method_38_code, 4, (Option.some Jvm.ClassFile.FieldType.boolean), [])
theorem oX10_starts : OKm MX10_starts 0 := ⟨q2631, q176, by decide, ⟨by decide, by decide⟩, by decide +kernel⟩
abbrev MX10_isWaiting : MR := (({ cls := "TallySlateModel", name := "isWaiting", desc := "(I)Z" } : Jvm.MethodName), prog_37_method_35_code, 2, (Option.some Jvm.ClassFile.FieldType.boolean), [])
theorem oX10_isWaiting : OKm MX10_isWaiting 1 := ⟨q2635, q176, by decide, ⟨by decide, by decide⟩, by decide +kernel⟩
abbrev MX10_wait : MR := (({ cls := "TallySlateModel", name := "wait", desc := "(III)V" } : Jvm.MethodName), prog_37_method_33_code, 4, (Option.none : Option Jvm.ClassFile.FieldType), [])
theorem oX10_wait : OKm MX10_wait 3 := ⟨q2639, q176, by decide, ⟨by decide, by decide⟩, by decide +kernel⟩
abbrev MX10_ends2 : MR := (({ cls := "TallySlateModel", name := "ends2", desc := "()Z" } : Jvm.MethodName), prog_37_method_42_code, 3, (Option.some Jvm.ClassFile.FieldType.boolean), [])
theorem oX10_ends2 : OKm MX10_ends2 0 := ⟨q2643, q176, by decide, ⟨by decide, by decide⟩, by decide +kernel⟩
abbrev MX10_most0 : MR := (({ cls := "TallySlateModel", name := "most0", desc := "(I)I" } : Jvm.MethodName), prog_37_method_41_code, 2, (Option.some Jvm.ClassFile.FieldType.int), [])
theorem oX10_most0 : OKm MX10_most0 1 := ⟨q2647, q176, by decide, ⟨by decide, by decide⟩, by decide +kernel⟩
abbrev MX10_called : MR := (({ cls := "TallySlateModel", name := "called", desc := "(IJII)V" } : Jvm.MethodName), prog_37_method_23_code, 6, (Option.none : Option Jvm.ClassFile.FieldType), [])
theorem oX10_called : OKm MX10_called 4 := ⟨q2651, q176, by decide, ⟨by decide, by decide⟩, by decide +kernel⟩
abbrev MX10_begins1 : MR := (({ cls := "TallySlateModel", name := "begins1", desc := "(II)Z" } : Jvm.MethodName), prog_37_method_39_code, 6, (Option.some Jvm.ClassFile.FieldType.boolean), [])
theorem oX10_begins1 : OKm MX10_begins1 2 := ⟨q2655, q176, by decide, ⟨by decide, by decide⟩, by decide +kernel⟩
abbrev MX10_levelOf : MR := (({ cls := "TallySlateModel", name := "levelOf", desc := "(I)I" } : Jvm.MethodName), prog_37_method_34_code, 1, (Option.some Jvm.ClassFile.FieldType.int), [])
theorem oX10_levelOf : OKm MX10_levelOf 1 := ⟨q2658, q176, by decide, ⟨by decide, by decide⟩, by decide +kernel⟩
abbrev MX10_reduce : MR := (({ cls := "TallySlateModel", name := "reduce", desc := "(I)V" } : Jvm.MethodName), prog_37_method_36_code, 2, (Option.none : Option Jvm.ClassFile.FieldType), [])
theorem oX10_reduce : OKm MX10_reduce 1 := ⟨q2662, q176, by decide, ⟨by decide, by decide⟩, by decide +kernel⟩
abbrev MX10_ends1 : MR := (({ cls := "TallySlateModel", name := "ends1", desc := "()Z" } : Jvm.MethodName), prog_37_method_40_code, 4, (Option.some Jvm.ClassFile.FieldType.boolean), [])
theorem oX10_ends1 : OKm MX10_ends1 0 := ⟨q2666, q176, by decide, ⟨by decide, by decide⟩, by decide +kernel⟩
abbrev MX10_puts : MR := (({ cls := "TallySlateModel", name := "puts", desc := "()V" } : Jvm.MethodName), prog_37_method_32_code, 6, (Option.none : Option Jvm.ClassFile.FieldType), [])
theorem oX10_puts : OKm MX10_puts 0 := ⟨q2670, q176, by decide, ⟨by decide, by decide⟩, by decide +kernel⟩
abbrev MX10_resolve : MR := (({ cls := "TallySlateModel", name := "resolve", desc := "()V" } : Jvm.MethodName), prog_37_method_43_code, 6, (Option.none : Option Jvm.ClassFile.FieldType), [])
theorem oX10_resolve : OKm MX10_resolve 0 := ⟨q2674, q176, by decide, ⟨by decide, by decide⟩, by decide +kernel⟩
abbrev MX10_fault : MR := (({ cls := "TallySlateModel", name := "fault", desc := "(I)I" } : Jvm.MethodName), prog_37_method_45_code, 2, (Option.some Jvm.ClassFile.FieldType.int), [])
theorem oX10_fault : OKm MX10_fault 1 := ⟨q2678, q176, by decide, ⟨by decide, by decide⟩, by decide +kernel⟩
abbrev MX10_function_2 : MR := (({ cls := "TallySlateModel", name := "function", desc := "(II)I" } : Jvm.MethodName), prog_37_method_46_code, 4, (Option.some Jvm.ClassFile.FieldType.int), [])
theorem oX10_function_2 : OKm MX10_function_2 2 := ⟨q2682, q176, by decide, ⟨by decide, by decide⟩, by decide +kernel⟩
abbrev MX10_run : MR := (({ cls := "TallySlateModel", name := "run", desc := "(III)I" } : Jvm.MethodName), prog_37_method_72_code, 6, (Option.some Jvm.ClassFile.FieldType.int), [])
theorem oX10_run : OKm MX10_run 3 := ⟨q2686, q176, by decide, ⟨by decide, by decide⟩, by decide +kernel⟩
abbrev MX10_enters : MR := (({ cls := "TallySlateModel", name := "enters", desc := "(III)V" } : Jvm.MethodName), prog_37_method_69_code, 6, (Option.none : Option Jvm.ClassFile.FieldType), [])
theorem oX10_enters : OKm MX10_enters 3 := ⟨q2693, q176, by decide, ⟨by decide, by decide⟩, by decide +kernel⟩
abbrev MX10_trouble : MR := (({ cls := "TallySlateModel", name := "trouble", desc := "(II)V" } : Jvm.MethodName), prog_37_method_60_code, 3, (Option.none : Option Jvm.ClassFile.FieldType), [])
theorem oX10_trouble : OKm MX10_trouble 2 := ⟨q2697, q176, by decide, ⟨by decide, by decide⟩, by decide +kernel⟩
abbrev MX10_does : MR := (({ cls := "TallySlateModel", name := "does", desc := "(I)V" } : Jvm.MethodName), prog_37_method_73_code, 2, (Option.none : Option Jvm.ClassFile.FieldType), [])
theorem oX10_does : OKm MX10_does 1 := ⟨q2701, q176, by decide, ⟨by decide, by decide⟩, by decide +kernel⟩
abbrev MX10_step : MR := (({ cls := "TallySlateModel", name := "step", desc := "()V" } : Jvm.MethodName), prog_37_method_61_code, 1, (Option.none : Option Jvm.ClassFile.FieldType), [])
theorem oX10_step : OKm MX10_step 0 := ⟨q2705, q176, by decide, ⟨by decide, by decide⟩, by decide +kernel⟩
abbrev MX10_push : MR := (({ cls := "TallySlateModel", name := "push", desc := "(II)V" } : Jvm.MethodName), prog_37_method_47_code, 3, (Option.none : Option Jvm.ClassFile.FieldType), [])
theorem oX10_push : OKm MX10_push 2 := ⟨q2709, q176, by decide, ⟨by decide, by decide⟩, by decide +kernel⟩
abbrev MX10_kindOf : MR := (({ cls := "TallySlateModel", name := "kindOf", desc := "(I)I" } : Jvm.MethodName), prog_37_method_67_code, 2, (Option.some Jvm.ClassFile.FieldType.int), [])
theorem oX10_kindOf : OKm MX10_kindOf 1 := ⟨q2713, q176, by decide, ⟨by decide, by decide⟩, by decide +kernel⟩
abbrev MX10_valueOf : MR := (({ cls := "TallySlateModel", name := "valueOf", desc := "(I)I" } : Jvm.MethodName), prog_37_method_68_code, 2, (Option.some Jvm.ClassFile.FieldType.int), [])
theorem oX10_valueOf : OKm MX10_valueOf 1 := ⟨q2717, q176, by decide, ⟨by decide, by decide⟩, by decide +kernel⟩
abbrev MX10_works : MR := (({ cls := "TallySlateModel", name := "works", desc := "(I)V" } : Jvm.MethodName), prog_37_method_76_code, 2, (Option.none : Option Jvm.ClassFile.FieldType), [])
theorem oX10_works : OKm MX10_works 1 := ⟨q2721, q176, by decide, ⟨by decide, by decide⟩, by decide +kernel⟩
abbrev MX10_one : MR := (({ cls := "TallySlateModel", name := "one", desc := "(I)V" } : Jvm.MethodName), prog_37_method_83_code, 9, (Option.none : Option Jvm.ClassFile.FieldType), [])
theorem oX10_one : OKm MX10_one 1 := ⟨q2725, q176, by decide, ⟨by decide, by decide⟩, by decide +kernel⟩
abbrev MX10_kindAt : MR := (({ cls := "TallySlateModel", name := "kindAt", desc := "(I)I" } : Jvm.MethodName), prog_37_method_48_code, 2, (Option.some Jvm.ClassFile.FieldType.int), [])
theorem oX10_kindAt : OKm MX10_kindAt 1 := ⟨q2729, q176, by decide, ⟨by decide, by decide⟩, by decide +kernel⟩
abbrev MX10_single : MR := (({ cls := "TallySlateModel", name := "single", desc := "(II)I" } : Jvm.MethodName), prog_37_method_82_code, 2, (Option.some Jvm.ClassFile.FieldType.int), [])
theorem oX10_single : OKm MX10_single 2 := ⟨q2732, q176, by decide, ⟨by decide, by decide⟩, by decide +kernel⟩
abbrev MX10_sizeAt : MR := (({ cls := "TallySlateModel", name := "sizeAt", desc := "(I)I" } : Jvm.MethodName), prog_37_method_49_code, 2, (Option.some Jvm.ClassFile.FieldType.int), [])
theorem oX10_sizeAt : OKm MX10_sizeAt 1 := ⟨q2736, q176, by decide, ⟨by decide, by decide⟩, by decide +kernel⟩
abbrev MX10_builds : MR := (({ cls := "TallySlateModel", name := "builds", desc := "(II)V" } : Jvm.MethodName), prog_37_method_64_code, 10, (Option.none : Option Jvm.ClassFile.FieldType), [])
theorem oX10_builds : OKm MX10_builds 2 := ⟨q2740, q176, by decide, ⟨by decide, by decide⟩, by decide +kernel⟩
abbrev MX10_measure : MR := (({ cls := "TallySlateModel", name := "measure", desc := "(I)V" } : Jvm.MethodName), prog_37_method_55_code, 5, (Option.none : Option Jvm.ClassFile.FieldType), [])
theorem oX10_measure : OKm MX10_measure 1 := ⟨q2744, q176, by decide, ⟨by decide, by decide⟩, by decide +kernel⟩
abbrev MX10_plainBulk : MR := (({ cls := "TallySlateModel", name := "plainBulk", desc := "(I)I" } : Jvm.MethodName), prog_37_method_54_code, 4, (Option.some Jvm.ClassFile.FieldType.int), [])
theorem oX10_plainBulk : OKm MX10_plainBulk 1 := ⟨q2748, q176, by decide, ⟨by decide, by decide⟩, by decide +kernel⟩
abbrev MX10_partAt : MR := (({ cls := "TallySlateModel", name := "partAt", desc := "(II)I" } : Jvm.MethodName), prog_37_method_51_code, 3, (Option.some Jvm.ClassFile.FieldType.int), [])
theorem oX10_partAt : OKm MX10_partAt 2 := ⟨q2752, q176, by decide, ⟨by decide, by decide⟩, by decide +kernel⟩
abbrev MX10_goesIn : MR := (({ cls := "TallySlateModel", name := "goesIn", desc := "(II)V" } : Jvm.MethodName), prog_37_method_53_code, 3, (Option.none : Option Jvm.ClassFile.FieldType), [])
theorem oX10_goesIn : OKm MX10_goesIn 2 := ⟨q2756, q176, by decide, ⟨by decide, by decide⟩, by decide +kernel⟩
abbrev MX10_isInt : MR := (({ cls := "TallySlateModel", name := "isInt", desc := "(II)Z" } : Jvm.MethodName), prog_37_method_50_code, 3, (Option.some Jvm.ClassFile.FieldType.boolean), [])
theorem oX10_isInt : OKm MX10_isInt 2 := ⟨q2760, q176, by decide, ⟨by decide, by decide⟩, by decide +kernel⟩
abbrev MX10_begins : MR := (({ cls := "TallySlateModel", name := "begins", desc := "(II)I" } : Jvm.MethodName), prog_37_method_63_code, 4, (Option.some Jvm.ClassFile.FieldType.int), [])
theorem oX10_begins : OKm MX10_begins 2 := ⟨q2764, q176, by decide, ⟨by decide, by decide⟩, by decide +kernel⟩
abbrev MX10_gives : MR := (({ cls := "TallySlateModel", name := "gives", desc := "(I)V" } : Jvm.MethodName), prog_37_method_62_code, 2, (Option.none : Option Jvm.ClassFile.FieldType), [])
theorem oX10_gives : OKm MX10_gives 1 := ⟨q2768, q176, by decide, ⟨by decide, by decide⟩, by decide +kernel⟩
abbrev MX10_counts : MR := (({ cls := "TallySlateModel", name := "counts", desc := "(I)I" } : Jvm.MethodName), prog_37_method_56_code, 4, (Option.some Jvm.ClassFile.FieldType.int), [])
theorem oX10_counts : OKm MX10_counts 1 := ⟨q2772, q176, by decide, ⟨by decide, by decide⟩, by decide +kernel⟩
abbrev MX10_rowOf : MR := (({ cls := "TallySlateModel", name := "rowOf", desc := "(I)V" } : Jvm.MethodName), prog_37_method_65_code, 4, (Option.none : Option Jvm.ClassFile.FieldType), [])
theorem oX10_rowOf : OKm MX10_rowOf 1 := ⟨q2776, q176, by decide, ⟨by decide, by decide⟩, by decide +kernel⟩
abbrev MX10_two : MR := (({ cls := "TallySlateModel", name := "two", desc := "(I)V" } : Jvm.MethodName), prog_37_method_81_code, 21, (Option.none : Option Jvm.ClassFile.FieldType), [])
theorem oX10_two : OKm MX10_two 1 := ⟨q2780, q176, by decide, ⟨by decide, by decide⟩, by decide +kernel⟩
abbrev MX10_act : MR := (({ cls := "TallySlateModel", name := "act", desc := "(III)I" } : Jvm.MethodName), prog_37_method_79_code, 3, (Option.some Jvm.ClassFile.FieldType.int), [])
theorem oX10_act : OKm MX10_act 3 := ⟨q2783, q176, by decide, ⟨by decide, by decide⟩, by decide +kernel⟩
abbrev MX10_beside : MR := (({ cls := "TallySlateModel", name := "beside", desc := "(III)I" } : Jvm.MethodName), prog_37_method_80_code, 4, (Option.some Jvm.ClassFile.FieldType.int), [])
theorem oX10_beside : OKm MX10_beside 3 := ⟨q2787, q176, by decide, ⟨by decide, by decide⟩, by decide +kernel⟩
abbrev MX10_literal : MR := (({ cls := "TallySlateModel", name := "literal", desc := "(I)V" } : Jvm.MethodName), prog_37_method_84_code, 5, (Option.none : Option Jvm.ClassFile.FieldType), [])
theorem oX10_literal : OKm MX10_literal 1 := ⟨q2791, q176, by decide, ⟨by decide, by decide⟩, by decide +kernel⟩
abbrev MX10_index : MR := (({ cls := "TallySlateModel", name := "index", desc := "()V" } : Jvm.MethodName), prog_37_method_85_code, 9, (Option.none : Option Jvm.ClassFile.FieldType), [])
theorem oX10_index : OKm MX10_index 0 := ⟨q2795, q176, by decide, ⟨by decide, by decide⟩, by decide +kernel⟩
abbrev MX10_element : MR := (({ cls := "TallySlateModel", name := "element", desc := "(II)V" } : Jvm.MethodName), prog_37_method_52_code, 3, (Option.none : Option Jvm.ClassFile.FieldType), [])
theorem oX10_element : OKm MX10_element 2 := ⟨q2799, q176, by decide, ⟨by decide, by decide⟩, by decide +kernel⟩
abbrev MX10_builtIn : MR := (({ cls := "TallySlateModel", name := "builtIn", desc := "(II)V" } : Jvm.MethodName), prog_37_method_88_code, 6, (Option.none : Option Jvm.ClassFile.FieldType), [])
theorem oX10_builtIn : OKm MX10_builtIn 2 := ⟨q2803, q176, by decide, ⟨by decide, by decide⟩, by decide +kernel⟩
abbrev MX10_suits : MR := (({ cls := "TallySlateModel", name := "suits", desc := "(IIII)Z" } : Jvm.MethodName), prog_37_method_87_code, 4, (Option.some Jvm.ClassFile.FieldType.boolean), [])
theorem oX10_suits : OKm MX10_suits 4 := ⟨q2806, q176, by decide, ⟨by decide, by decide⟩, by decide +kernel⟩
abbrev MX10_makes : MR := (({ cls := "TallySlateModel", name := "makes", desc := "(IIII)V" } : Jvm.MethodName), prog_37_method_90_code, 10, (Option.none : Option Jvm.ClassFile.FieldType), [])
theorem oX10_makes : OKm MX10_makes 4 := ⟨q2810, q176, by decide, ⟨by decide, by decide⟩, by decide +kernel⟩
abbrev MX10_zeros : MR := (({ cls := "TallySlateModel", name := "zeros", desc := "(I)V" } : Jvm.MethodName), prog_37_method_89_code, 3, (Option.none : Option Jvm.ClassFile.FieldType), [])
theorem oX10_zeros : OKm MX10_zeros 1 := ⟨q2815, q176, by decide, ⟨by decide, by decide⟩, by decide +kernel⟩
abbrev MX10_ofOneThing : MR := (({ cls := "TallySlateModel", name := "ofOneThing", desc := "(III)V" } : Jvm.MethodName), prog_37_method_93_code, 7, (Option.none : Option Jvm.ClassFile.FieldType), [])
theorem oX10_ofOneThing : OKm MX10_ofOneThing 3 := ⟨q2819, q176, by decide, ⟨by decide, by decide⟩, by decide +kernel⟩
abbrev MX10_eachRow : MR := (({ cls := "TallySlateModel", name := "eachRow", desc := "(IIII)V" } : Jvm.MethodName), prog_37_method_94_code, 7, (Option.none : Option Jvm.ClassFile.FieldType), [])
theorem oX10_eachRow : OKm MX10_eachRow 4 := ⟨q2823, q176, by decide, ⟨by decide, by decide⟩, by decide +kernel⟩
abbrev MX10_worked : MR := (({ cls := "TallySlateModel", name := "worked", desc := "(II)V" } : Jvm.MethodName), prog_37_method_92_code, 9, (Option.none : Option Jvm.ClassFile.FieldType), [])
theorem oX10_worked : OKm MX10_worked 2 := ⟨q2827, q176, by decide, ⟨by decide, by decide⟩, by decide +kernel⟩
abbrev MX10_reduced : MR := (({ cls := "TallySlateModel", name := "reduced", desc := "(II)I" } : Jvm.MethodName), prog_37_method_91_code, 6, (Option.some Jvm.ClassFile.FieldType.int), [])
theorem oX10_reduced : OKm MX10_reduced 2 := ⟨q2831, q176, by decide, ⟨by decide, by decide⟩, by decide +kernel⟩
abbrev MX10_shapes : MR := (({ cls := "TallySlateModel", name := "shapes", desc := "(III)V" } : Jvm.MethodName), prog_37_method_95_code, 10, (Option.none : Option Jvm.ClassFile.FieldType), [])
theorem oX10_shapes : OKm MX10_shapes 3 := ⟨q2835, q176, by decide, ⟨by decide, by decide⟩, by decide +kernel⟩
abbrev MX10_most : MR := (({ cls := "TallySlateModel", name := "most", desc := "(II)I" } : Jvm.MethodName), prog_37_method_86_code, 2, (Option.some Jvm.ClassFile.FieldType.int), [])
theorem oX10_most : OKm MX10_most 2 := ⟨q2838, q176, by decide, ⟨by decide, by decide⟩, by decide +kernel⟩
abbrev MX10_ofTwo : MR := (({ cls := "TallySlateModel", name := "ofTwo", desc := "(IIII)V" } : Jvm.MethodName), prog_37_method_107_code, 7, (Option.none : Option Jvm.ClassFile.FieldType), [])
theorem oX10_ofTwo : OKm MX10_ofTwo 4 := ⟨q2842, q176, by decide, ⟨by decide, by decide⟩, by decide +kernel⟩
abbrev MX10_join : MR := (({ cls := "TallySlateModel", name := "join", desc := "(III)V" } : Jvm.MethodName), prog_37_method_97_code, 9, (Option.none : Option Jvm.ClassFile.FieldType), [])
theorem oX10_join : OKm MX10_join 3 := ⟨q2846, q176, by decide, ⟨by decide, by decide⟩, by decide +kernel⟩
abbrev MX10_all : MR := (({ cls := "TallySlateModel", name := "all", desc := "(IIZ)V" } : Jvm.MethodName), prog_37_method_96_code, 5, (Option.none : Option Jvm.ClassFile.FieldType), [])
theorem oX10_all : OKm MX10_all 3 := ⟨q2850, q176, by decide, ⟨by decide, by decide⟩, by decide +kernel⟩
abbrev MX10_ends2_2 : MR := (({ cls := "TallySlateModel", name := "ends2", desc := "(IIII)V" } : Jvm.MethodName), prog_37_method_98_code, 12, (Option.none : Option Jvm.ClassFile.FieldType), [])
theorem oX10_ends2_2 : OKm MX10_ends2_2 4 := ⟨q2854, q176, by decide, ⟨by decide, by decide⟩, by decide +kernel⟩
abbrev MX10_cut : MR := (({ cls := "TallySlateModel", name := "cut", desc := "(III)V" } : Jvm.MethodName), prog_37_method_99_code, 12, (Option.none : Option Jvm.ClassFile.FieldType), [])
theorem oX10_cut : OKm MX10_cut 3 := ⟨q2860, q176, by decide, ⟨by decide, by decide⟩, by decide +kernel⟩
abbrev MX10_pick : MR := (({ cls := "TallySlateModel", name := "pick", desc := "(III)V" } : Jvm.MethodName), prog_37_method_100_code, 6, (Option.none : Option Jvm.ClassFile.FieldType), [])
theorem oX10_pick : OKm MX10_pick 3 := ⟨q2864, q176, by decide, ⟨by decide, by decide⟩, by decide +kernel⟩
abbrev MX10_findIn : MR := (({ cls := "TallySlateModel", name := "findIn", desc := "(II)I" } : Jvm.MethodName), prog_37_method_101_code, 4, (Option.some Jvm.ClassFile.FieldType.int), [])
theorem oX10_findIn : OKm MX10_findIn 2 := ⟨q2868, q176, by decide, ⟨by decide, by decide⟩, by decide +kernel⟩
abbrev MX10_pad : MR := (({ cls := "TallySlateModel", name := "pad", desc := "(III)V" } : Jvm.MethodName), prog_37_method_102_code, 9, (Option.none : Option Jvm.ClassFile.FieldType), [])
theorem oX10_pad : OKm MX10_pad 3 := ⟨q2872, q176, by decide, ⟨by decide, by decide⟩, by decide +kernel⟩
abbrev MX10_outer : MR := (({ cls := "TallySlateModel", name := "outer", desc := "(III)V" } : Jvm.MethodName), prog_37_method_103_code, 7, (Option.none : Option Jvm.ClassFile.FieldType), [])
theorem oX10_outer : OKm MX10_outer 3 := ⟨q2876, q176, by decide, ⟨by decide, by decide⟩, by decide +kernel⟩
abbrev MX10_areSame : MR := (({ cls := "TallySlateModel", name := "areSame", desc := "(II)Z" } : Jvm.MethodName), prog_37_method_106_code, 9, (Option.some Jvm.ClassFile.FieldType.boolean), [])
theorem oX10_areSame : OKm MX10_areSame 2 := ⟨q2880, q176, by decide, ⟨by decide, by decide⟩, by decide +kernel⟩
abbrev MX10_arePlainSame : MR := (({ cls := "TallySlateModel", name := "arePlainSame", desc := "(II)Z" } : Jvm.MethodName), prog_37_method_105_code, 5, (Option.some Jvm.ClassFile.FieldType.boolean), [])
theorem oX10_arePlainSame : OKm MX10_arePlainSame 2 := ⟨q2884, q176, by decide, ⟨by decide, by decide⟩, by decide +kernel⟩
abbrev MX10_areSameRows : MR := (({ cls := "TallySlateModel", name := "areSameRows", desc := "(II)Z" } : Jvm.MethodName), prog_37_method_104_code, 5, (Option.some Jvm.ClassFile.FieldType.boolean), [])
theorem oX10_areSameRows : OKm MX10_areSameRows 2 := ⟨q2888, q176, by decide, ⟨by decide, by decide⟩, by decide +kernel⟩
abbrev MX10_way : MR := (({ cls := "TallySlateModel", name := "way", desc := "(IIII)V" } : Jvm.MethodName), prog_37_method_70_code, 5, (Option.none : Option Jvm.ClassFile.FieldType), [])
theorem oX10_way : OKm MX10_way 4 := ⟨q2892, q176, by decide, ⟨by decide, by decide⟩, by decide +kernel⟩
abbrev MX10_next : MR := (({ cls := "TallySlateModel", name := "next", desc := "(I)V" } : Jvm.MethodName), prog_37_method_77_code, 7, (Option.none : Option Jvm.ClassFile.FieldType), [])
theorem oX10_next : OKm MX10_next 1 := ⟨q2896, q176, by decide, ⟨by decide, by decide⟩, by decide +kernel⟩
abbrev MX10_store : MR := (({ cls := "TallySlateModel", name := "store", desc := "(III)V" } : Jvm.MethodName), prog_37_method_66_code, 4, (Option.none : Option Jvm.ClassFile.FieldType), [])
theorem oX10_store : OKm MX10_store 3 := ⟨q2900, q176, by decide, ⟨by decide, by decide⟩, by decide +kernel⟩
abbrev MX10_putAt : MR := (({ cls := "TallySlateModel", name := "putAt", desc := "(I)V" } : Jvm.MethodName), prog_37_method_78_code, 15, (Option.none : Option Jvm.ClassFile.FieldType), [])
theorem oX10_putAt : OKm MX10_putAt 1 := ⟨q2904, q176, by decide, ⟨by decide, by decide⟩, by decide +kernel⟩
abbrev MX10_forNext : MR := (({ cls := "TallySlateModel", name := "forNext", desc := "(I)V" } : Jvm.MethodName), prog_37_method_75_code, 3, (Option.none : Option Jvm.ClassFile.FieldType), [])
theorem oX10_forNext : OKm MX10_forNext 1 := ⟨q2908, q176, by decide, ⟨by decide, by decide⟩, by decide +kernel⟩
abbrev MX10_ofOne : MR := (({ cls := "TallySlateModel", name := "ofOne", desc := "(I)V" } : Jvm.MethodName), prog_37_method_74_code, 5, (Option.none : Option Jvm.ClassFile.FieldType), [])
theorem oX10_ofOne : OKm MX10_ofOne 1 := ⟨q2912, q176, by decide, ⟨by decide, by decide⟩, by decide +kernel⟩
abbrev MX10_number : MR := (({ cls := "TallySlateModel", name := "number", desc := "(I)V" } : Jvm.MethodName), prog_37_method_109_code, 6, (Option.none : Option Jvm.ClassFile.FieldType), [])
theorem oX10_number : OKm MX10_number 1 := ⟨q2916, q176, by decide, ⟨by decide, by decide⟩, by decide +kernel⟩
abbrev MX10_says : MR := (({ cls := "TallySlateModel", name := "says", desc := "(I)V" } : Jvm.MethodName), prog_37_method_108_code, 2, (Option.none : Option Jvm.ClassFile.FieldType), [])
theorem oX10_says : OKm MX10_says 1 := ⟨q2920, q176, by decide, ⟨by decide, by decide⟩, by decide +kernel⟩
abbrev MX10_form : MR := (({ cls := "TallySlateModel", name := "form", desc := "(I)V" } : Jvm.MethodName), prog_37_method_112_code, 4, (Option.none : Option Jvm.ClassFile.FieldType), [])
theorem oX10_form : OKm MX10_form 1 := ⟨q2925, q176, by decide, ⟨by decide, by decide⟩, by decide +kernel⟩
abbrev MX10_formOfPlain : MR := (({ cls := "TallySlateModel", name := "formOfPlain", desc := "(I)V" } : Jvm.MethodName), prog_37_method_111_code, 3, (Option.none : Option Jvm.ClassFile.FieldType), [])
theorem oX10_formOfPlain : OKm MX10_formOfPlain 1 := ⟨q2929, q176, by decide, ⟨by decide, by decide⟩, by decide +kernel⟩
abbrev MX10_formOfRow : MR := (({ cls := "TallySlateModel", name := "formOfRow", desc := "(I)V" } : Jvm.MethodName), prog_37_method_110_code, 3, (Option.none : Option Jvm.ClassFile.FieldType), [])
theorem oX10_formOfRow : OKm MX10_formOfRow 1 := ⟨q2933, q176, by decide, ⟨by decide, by decide⟩, by decide +kernel⟩
abbrev MX10_isTaken : MR := (({ cls := "TallySlateModel", name := "isTaken", desc := "()Z" } : Jvm.MethodName), prog_37_method_71_code, 3, (Option.some Jvm.ClassFile.FieldType.boolean), [])
theorem oX10_isTaken : OKm MX10_isTaken 0 := ⟨q2937, q176, by decide, ⟨by decide, by decide⟩, by decide +kernel⟩
abbrev MX10_lay : MR := (({ cls := "TallySlateModel", name := "lay", desc := "(III)V" } : Jvm.MethodName), prog_37_method_58_code, 12, (Option.none : Option Jvm.ClassFile.FieldType), [])
theorem oX10_lay : OKm MX10_lay 3 := ⟨q2941, q176, by decide, ⟨by decide, by decide⟩, by decide +kernel⟩
abbrev MX10_numbersOf : MR := (({ cls := "TallySlateModel", name := "numbersOf", desc := "(I)I" } : Jvm.MethodName), prog_37_method_57_code, 2, (Option.some Jvm.ClassFile.FieldType.int), [])
theorem oX10_numbersOf : OKm MX10_numbersOf 1 := ⟨q2945, q176, by decide, ⟨by decide, by decide⟩, by decide +kernel⟩
abbrev MX10_copy : MR := (({ cls := "TallySlateModel", name := "copy", desc := "(II)V" } : Jvm.MethodName), prog_37_method_59_code, 3, (Option.none : Option Jvm.ClassFile.FieldType), [])
theorem oX10_copy : OKm MX10_copy 2 := ⟨q2949, q176, by decide, ⟨by decide, by decide⟩, by decide +kernel⟩
abbrev MX10_trouble_2 : MR := (({ cls := "TallySlateModel", name := "trouble", desc := "(I)I" } : Jvm.MethodName), prog_37_method_113_code, 2, (Option.some Jvm.ClassFile.FieldType.int), [])
theorem oX10_trouble_2 : OKm MX10_trouble_2 1 := ⟨q2953, q176, by decide, ⟨by decide, by decide⟩, by decide +kernel⟩
abbrev MX10_out : MR := (({ cls := "TallySlateModel", name := "out", desc := "(I)I" } : Jvm.MethodName), prog_37_method_114_code, 2, (Option.some Jvm.ClassFile.FieldType.int), [])
theorem oX10_out : OKm MX10_out 1 := ⟨q2957, q176, by decide, ⟨by decide, by decide⟩, by decide +kernel⟩
abbrev MX10_outs : MR := (({ cls := "TallySlateModel", name := "outs", desc := "()I" } : Jvm.MethodName), prog_37_method_115_code, 1, (Option.some Jvm.ClassFile.FieldType.int), [])
theorem oX10_outs : OKm MX10_outs 0 := ⟨q2961, q176, by decide, ⟨by decide, by decide⟩, by decide +kernel⟩
abbrev MX10_show : MR := (({ cls := "TallySlateModel", name := "show", desc := "(I)I" } : Jvm.MethodName), prog_37_method_117_code, 2, (Option.some Jvm.ClassFile.FieldType.int), [])
theorem oX10_show : OKm MX10_show 1 := ⟨q2965, q176, by decide, ⟨by decide, by decide⟩, by decide +kernel⟩
abbrev MX10_isShelfAt : MR := (({ cls := "TallySlateModel", name := "isShelfAt", desc := "(I)Z" } : Jvm.MethodName), prog_37_method_116_code, 1, (Option.some Jvm.ClassFile.FieldType.boolean), [])
theorem oX10_isShelfAt : OKm MX10_isShelfAt 1 := ⟨q2968, q176, by decide, ⟨by decide, by decide⟩, by decide +kernel⟩
abbrev MX10_set : MR := (({ cls := "TallySlateModel", name := "set", desc := "(II)Z" } : Jvm.MethodName), prog_37_method_118_code, 3, (Option.some Jvm.ClassFile.FieldType.boolean), [])
theorem oX10_set : OKm MX10_set 2 := ⟨q2972, q176, by decide, ⟨by decide, by decide⟩, by decide +kernel⟩
abbrev MX10_add : MR := (({ cls := "TallySlateModel", name := "add", desc := "(II)Z" } : Jvm.MethodName), prog_37_method_119_code, 4, (Option.some Jvm.ClassFile.FieldType.boolean), [])
theorem oX10_add : OKm MX10_add 2 := ⟨q2976, q176, by decide, ⟨by decide, by decide⟩, by decide +kernel⟩
abbrev MX10_clear : MR := (({ cls := "TallySlateModel", name := "clear", desc := "(I)Z" } : Jvm.MethodName), prog_37_method_120_code, 2, (Option.some Jvm.ClassFile.FieldType.boolean), [])
theorem oX10_clear : OKm MX10_clear 1 := ⟨q2980, q176, by decide, ⟨by decide, by decide⟩, by decide +kernel⟩
abbrev MX10_kind : MR := (({ cls := "TallySlateModel", name := "kind", desc := "(I)I" } : Jvm.MethodName), prog_37_method_121_code, 2, (Option.some Jvm.ClassFile.FieldType.int), [])
theorem oX10_kind : OKm MX10_kind 1 := ⟨q2984, q176, by decide, ⟨by decide, by decide⟩, by decide +kernel⟩
abbrev MX10_size : MR := (({ cls := "TallySlateModel", name := "size", desc := "(II)I" } : Jvm.MethodName), prog_37_method_122_code, 5, (Option.some Jvm.ClassFile.FieldType.int), [])
theorem oX10_size : OKm MX10_size 2 := ⟨q2988, q176, by decide, ⟨by decide, by decide⟩, by decide +kernel⟩
abbrev MX10_cell : MR := (({ cls := "TallySlateModel", name := "cell", desc := "(III)I" } : Jvm.MethodName), prog_37_method_123_code, 7, (Option.some Jvm.ClassFile.FieldType.int), [])
theorem oX10_cell : OKm MX10_cell 3 := ⟨q2993, q176, by decide, ⟨by decide, by decide⟩, by decide +kernel⟩
abbrev MX10_same : MR := (({ cls := "TallySlateModel", name := "same", desc := "(II)Z" } : Jvm.MethodName), prog_37_method_124_code, 5, (Option.some Jvm.ClassFile.FieldType.boolean), [])
theorem oX10_same : OKm MX10_same 2 := ⟨q2997, q176, by decide, ⟨by decide, by decide⟩, by decide +kernel⟩
abbrev MX10_mark : MR := (({ cls := "TallySlateModel", name := "mark", desc := "()I" } : Jvm.MethodName), prog_37_method_125_code, 2, (Option.some Jvm.ClassFile.FieldType.int), [])
theorem oX10_mark : OKm MX10_mark 0 := ⟨q3001, q176, by decide, ⟨by decide, by decide⟩, by decide +kernel⟩
abbrev MX10_back : MR := (({ cls := "TallySlateModel", name := "back", desc := "()Z" } : Jvm.MethodName), prog_37_method_126_code, 2, (Option.some Jvm.ClassFile.FieldType.boolean), [])
theorem oX10_back : OKm MX10_back 0 := ⟨q3005, q176, by decide, ⟨by decide, by decide⟩, by decide +kernel⟩
abbrev MX10_sum : MR := (({ cls := "TallySlateModel", name := "sum", desc := "()J" } : Jvm.MethodName), prog_37_method_131_code, 2, (Option.some Jvm.ClassFile.FieldType.long), [])
theorem oX10_sum : OKm MX10_sum 0 := ⟨q3009, q176, by decide, ⟨by decide, by decide⟩, by decide +kernel⟩
abbrev MX10_mix : MR := (({ cls := "TallySlateModel", name := "mix", desc := "(I)V" } : Jvm.MethodName), prog_37_method_127_code, 2, (Option.none : Option Jvm.ClassFile.FieldType), [])
theorem oX10_mix : OKm MX10_mix 1 := ⟨q3013, q176, by decide, ⟨by decide, by decide⟩, by decide +kernel⟩
abbrev MX10_mixThing : MR := (({ cls := "TallySlateModel", name := "mixThing", desc := "(I)V" } : Jvm.MethodName), prog_37_method_130_code, 4, (Option.none : Option Jvm.ClassFile.FieldType), [])
theorem oX10_mixThing : OKm MX10_mixThing 1 := ⟨q3018, q176, by decide, ⟨by decide, by decide⟩, by decide +kernel⟩
abbrev MX10_mixPlain : MR := (({ cls := "TallySlateModel", name := "mixPlain", desc := "(I)V" } : Jvm.MethodName), prog_37_method_129_code, 3, (Option.none : Option Jvm.ClassFile.FieldType), [])
theorem oX10_mixPlain : OKm MX10_mixPlain 1 := ⟨q3022, q176, by decide, ⟨by decide, by decide⟩, by decide +kernel⟩
abbrev MX10_mixRow : MR := (({ cls := "TallySlateModel", name := "mixRow", desc := "(I)V" } : Jvm.MethodName), prog_37_method_128_code, 3, (Option.none : Option Jvm.ClassFile.FieldType), [])
theorem oX10_mixRow : OKm MX10_mixRow 1 := ⟨q3026, q176, by decide, ⟨by decide, by decide⟩, by decide +kernel⟩
abbrev MX11_init : MR := (({ cls := "TallySlate$Reader", name := "<init>", desc := "(LTallySlate$Scanner;)V" } : Jvm.MethodName), prog_24_method_1_code, 2, (Option.none : Option Jvm.ClassFile.FieldType), [])
theorem oX11_init : OKm MX11_init 1 := ⟨q578, q178, by decide, ⟨by decide, by decide⟩, by decide +kernel⟩
abbrev MX11_read : MR := (({ cls := "TallySlate$Reader", name := "read", desc := "()V" } : Jvm.MethodName), prog_24_method_2_code, 2, (Option.none : Option Jvm.ClassFile.FieldType), [])
theorem oX11_read : OKm MX11_read 0 := ⟨q608, q178, by decide, ⟨by decide, by decide⟩, by decide +kernel⟩
abbrev MX11_function : MR := (({ cls := "TallySlate$Reader", name := "function", desc := "()V" } : Jvm.MethodName), prog_24_method_8_code, 3, (Option.none : Option Jvm.ClassFile.FieldType), [])
theorem oX11_function : OKm MX11_function 0 := ⟨q755, q178, by decide, ⟨by decide, by decide⟩, by decide +kernel⟩
abbrev MX11_wantName : MR := (({ cls := "TallySlate$Reader", name := "wantName", desc := "()V" } : Jvm.MethodName), prog_24_method_7_code, 1, (Option.none : Option Jvm.ClassFile.FieldType), [])
theorem oX11_wantName : OKm MX11_wantName 0 := ⟨q759, q178, by decide, ⟨by decide, by decide⟩, by decide +kernel⟩
abbrev MX11_isReserved : MR := (({ cls := "TallySlate$Reader", name := "isReserved", desc := "()Z" } : Jvm.MethodName), prog_24_method_5_code, 3, (Option.some Jvm.ClassFile.FieldType.boolean), [])
theorem oX11_isReserved : OKm MX11_isReserved 0 := ⟨q763, q178, by decide, ⟨by decide, by decide⟩, by decide +kernel⟩
abbrev MX11_builtIn : MR := (({ cls := "TallySlate$Reader", name := "builtIn", desc := "()I" } : Jvm.MethodName), prog_24_method_6_code, 3, (Option.some Jvm.ClassFile.FieldType.int), [])
theorem oX11_builtIn : OKm MX11_builtIn 0 := ⟨q769, q178, by decide, ⟨by decide, by decide⟩, by decide +kernel⟩
abbrev MX11_isShelf : MR := (({ cls := "TallySlate$Reader", name := "isShelf", desc := "(J)Z" } : Jvm.MethodName), prog_24_method_4_code, 2, (Option.some Jvm.ClassFile.FieldType.boolean), [])
theorem oX11_isShelf : OKm MX11_isShelf 1 := ⟨q813, q178, by decide, ⟨by decide, by decide⟩, by decide +kernel⟩
abbrev MX11_parameter : MR := (({ cls := "TallySlate$Reader", name := "parameter", desc := "()V" } : Jvm.MethodName), prog_24_method_9_code, 3, (Option.none : Option Jvm.ClassFile.FieldType), [])
theorem oX11_parameter : OKm MX11_parameter 0 := ⟨q828, q178, by decide, ⟨by decide, by decide⟩, by decide +kernel⟩
abbrev MX11_block : MR := (({ cls := "TallySlate$Reader", name := "block", desc := "()LTallySlate$Block;" } : Jvm.MethodName), prog_24_method_12_code, 2, (Option.some (Jvm.ClassFile.FieldType.object "TallySlate$Block")), [])
theorem oX11_block : OKm MX11_block 0 := ⟨q832, q178, by decide, ⟨by decide, by decide⟩, by decide +kernel⟩
abbrev MX11_deed : MR := (({ cls := "TallySlate$Reader", name := "deed", desc := "()LTallySlate$Deed;" } : Jvm.MethodName), prog_24_method_13_code, 3, (Option.some (Jvm.ClassFile.FieldType.object "TallySlate$Deed")), [])
theorem oX11_deed : OKm MX11_deed 0 := ⟨q851, q178, by decide, ⟨by decide, by decide⟩, by decide +kernel⟩
abbrev MX11_choice : MR := (({ cls := "TallySlate$Reader", name := "choice", desc := "()LTallySlate$Deed;" } : Jvm.MethodName), prog_24_method_16_code, 2, (Option.some (Jvm.ClassFile.FieldType.object "TallySlate$Deed")), [])
theorem oX11_choice : OKm MX11_choice 0 := ⟨q856, q178, by decide, ⟨by decide, by decide⟩, by decide +kernel⟩
abbrev MX11_expression : MR := (({ cls := "TallySlate$Reader", name := "expression", desc := "()LTallySlate$Node;" } : Jvm.MethodName), prog_24_method_22_code, 1, (Option.some (Jvm.ClassFile.FieldType.object "TallySlate$Node")), [])
theorem oX11_expression : OKm MX11_expression 0 := ⟨q894, q178, by decide, ⟨by decide, by decide⟩, by decide +kernel⟩
abbrev MX11_level : MR := (({ cls := "TallySlate$Reader", name := "level", desc := "(I)LTallySlate$Node;" } : Jvm.MethodName), prog_24_method_23_code, 7, (Option.some (Jvm.ClassFile.FieldType.object "TallySlate$Node")), [])
theorem oX11_level : OKm MX11_level 1 := ⟨q898, q178, by decide, ⟨by decide, by decide⟩, by decide +kernel⟩
abbrev MX11_prefix : MR := (({ cls := "TallySlate$Reader", name := "prefix", desc := "()LTallySlate$Node;" } : Jvm.MethodName), prog_24_method_24_code, 4, (Option.some (Jvm.ClassFile.FieldType.object "TallySlate$Node")), [])
theorem oX11_prefix : OKm MX11_prefix 0 := ⟨q902, q178, by decide, ⟨by decide, by decide⟩, by decide +kernel⟩
abbrev MX11_places : MR := (({ cls := "TallySlate$Reader", name := "places", desc := "()LTallySlate$Node;" } : Jvm.MethodName), prog_24_method_25_code, 4, (Option.some (Jvm.ClassFile.FieldType.object "TallySlate$Node")), [])
theorem oX11_places : OKm MX11_places 0 := ⟨q906, q178, by decide, ⟨by decide, by decide⟩, by decide +kernel⟩
abbrev MX11_atom : MR := (({ cls := "TallySlate$Reader", name := "atom", desc := "()LTallySlate$Node;" } : Jvm.MethodName), prog_24_method_26_code, 3, (Option.some (Jvm.ClassFile.FieldType.object "TallySlate$Node")), [])
theorem oX11_atom : OKm MX11_atom 0 := ⟨q910, q178, by decide, ⟨by decide, by decide⟩, by decide +kernel⟩
abbrev MX11_literal : MR := (({ cls := "TallySlate$Reader", name := "literal", desc := "()LTallySlate$Node;" } : Jvm.MethodName), prog_24_method_27_code, 3, (Option.some (Jvm.ClassFile.FieldType.object "TallySlate$Node")), [])
theorem oX11_literal : OKm MX11_literal 0 := ⟨q943, q178, by decide, ⟨by decide, by decide⟩, by decide +kernel⟩
abbrev MX11_call : MR := (({ cls := "TallySlate$Reader", name := "call", desc := "()LTallySlate$Node;" } : Jvm.MethodName), prog_24_method_29_code, 5, (Option.some (Jvm.ClassFile.FieldType.object "TallySlate$Node")), [])
theorem oX11_call : OKm MX11_call 0 := ⟨q1006, q178, by decide, ⟨by decide, by decide⟩, by decide +kernel⟩
abbrev MX11_builtIn_2 : MR := (({ cls := "TallySlate$Reader", name := "builtIn", desc := "(II)LTallySlate$Node;" } : Jvm.MethodName), prog_24_method_30_code, 4, (Option.some (Jvm.ClassFile.FieldType.object "TallySlate$Node")), [])
theorem oX11_builtIn_2 : OKm MX11_builtIn_2 2 := ⟨q1010, q178, by decide, ⟨by decide, by decide⟩, by decide +kernel⟩
abbrev MX11_parts : MR := (({ cls := "TallySlate$Reader", name := "parts", desc := "(LTallySlate$Nodes;II)V" } : Jvm.MethodName), prog_24_method_31_code, 5, (Option.none : Option Jvm.ClassFile.FieldType), [])
theorem oX11_parts : OKm MX11_parts 3 := ⟨q1033, q178, by decide, ⟨by decide, by decide⟩, by decide +kernel⟩
abbrev MX11_remember : MR := (({ cls := "TallySlate$Reader", name := "remember", desc := "(LTallySlate$Call;)V" } : Jvm.MethodName), prog_24_method_28_code, 4, (Option.none : Option Jvm.ClassFile.FieldType), [])
theorem oX11_remember : OKm MX11_remember 1 := ⟨q1066, q178, by decide, ⟨by decide, by decide⟩, by decide +kernel⟩
abbrev MX11_name : MR := (({ cls := "TallySlate$Reader", name := "name", desc := "()I" } : Jvm.MethodName), prog_24_method_10_code, 4, (Option.some Jvm.ClassFile.FieldType.int), [])
theorem oX11_name : OKm MX11_name 0 := ⟨q1072, q178, by decide, ⟨by decide, by decide⟩, by decide +kernel⟩
abbrev MX11_isOf : MR := (({ cls := "TallySlate$Reader", name := "isOf", desc := "(I)Z" } : Jvm.MethodName), prog_24_method_21_code, 2, (Option.some Jvm.ClassFile.FieldType.boolean), [])
theorem oX11_isOf : OKm MX11_isOf 1 := ⟨q1114, q178, by decide, ⟨by decide, by decide⟩, by decide +kernel⟩
abbrev MX11_loop : MR := (({ cls := "TallySlate$Reader", name := "loop", desc := "()LTallySlate$Deed;" } : Jvm.MethodName), prog_24_method_17_code, 2, (Option.some (Jvm.ClassFile.FieldType.object "TallySlate$Deed")), [])
theorem oX11_loop : OKm MX11_loop 0 := ⟨q1134, q178, by decide, ⟨by decide, by decide⟩, by decide +kernel⟩
abbrev MX11_walk : MR := (({ cls := "TallySlate$Reader", name := "walk", desc := "()LTallySlate$Deed;" } : Jvm.MethodName), prog_24_method_18_code, 2, (Option.some (Jvm.ClassFile.FieldType.object "TallySlate$Deed")), [])
theorem oX11_walk : OKm MX11_walk 0 := ⟨q1155, q178, by decide, ⟨by decide, by decide⟩, by decide +kernel⟩
abbrev MX11_take : MR := (({ cls := "TallySlate$Reader", name := "take", desc := "(Ljava/lang/String;)V" } : Jvm.MethodName), prog_24_method_11_code, 2, (Option.none : Option Jvm.ClassFile.FieldType), [])
theorem oX11_take : OKm MX11_take 1 := ⟨q1180, q178, by decide, ⟨by decide, by decide⟩, by decide +kernel⟩
abbrev MX11_plain : MR := (({ cls := "TallySlate$Reader", name := "plain", desc := "(I)LTallySlate$Deed;" } : Jvm.MethodName), prog_24_method_15_code, 3, (Option.some (Jvm.ClassFile.FieldType.object "TallySlate$Deed")), [])
theorem oX11_plain : OKm MX11_plain 1 := ⟨q1185, q178, by decide, ⟨by decide, by decide⟩, by decide +kernel⟩
abbrev MX11_attempt : MR := (({ cls := "TallySlate$Reader", name := "attempt", desc := "()LTallySlate$Deed;" } : Jvm.MethodName), prog_24_method_19_code, 2, (Option.some (Jvm.ClassFile.FieldType.object "TallySlate$Deed")), [])
theorem oX11_attempt : OKm MX11_attempt 0 := ⟨q1207, q178, by decide, ⟨by decide, by decide⟩, by decide +kernel⟩
abbrev MX11_alone : MR := (({ cls := "TallySlate$Reader", name := "alone", desc := "()LTallySlate$Deed;" } : Jvm.MethodName), prog_24_method_14_code, 2, (Option.some (Jvm.ClassFile.FieldType.object "TallySlate$Deed")), [])
theorem oX11_alone : OKm MX11_alone 0 := ⟨q1236, q178, by decide, ⟨by decide, by decide⟩, by decide +kernel⟩
abbrev MX11_assign : MR := (({ cls := "TallySlate$Reader", name := "assign", desc := "()LTallySlate$Deed;" } : Jvm.MethodName), prog_24_method_20_code, 2, (Option.some (Jvm.ClassFile.FieldType.object "TallySlate$Deed")), [])
theorem oX11_assign : OKm MX11_assign 0 := ⟨q1240, q178, by decide, ⟨by decide, by decide⟩, by decide +kernel⟩
abbrev MX11_resolve : MR := (({ cls := "TallySlate$Reader", name := "resolve", desc := "(LTallySlate$Call;)V" } : Jvm.MethodName), prog_24_method_3_code, 3, (Option.none : Option Jvm.ClassFile.FieldType), [])
theorem oX11_resolve : OKm MX11_resolve 1 := ⟨q1288, q178, by decide, ⟨by decide, by decide⟩, by decide +kernel⟩
abbrev MX12_init : MR := (({ cls := "TallySlate$Definition", name := "<init>", desc := "()V" } : Jvm.MethodName), prog_8_method_1_code, 1, (Option.none : Option Jvm.ClassFile.FieldType), [])
theorem oX12_init : OKm MX12_init 0 := ⟨q776, q185, by decide, ⟨by decide, by decide⟩, by decide +kernel⟩
abbrev MX13_init : MR := (({ cls := "TallySlate$Block", name := "<init>", desc := "()V" } : Jvm.MethodName), prog_3_method_1_code, 1, (Option.none : Option Jvm.ClassFile.FieldType), [])
theorem oX13_init : OKm MX13_init 0 := ⟨q837, q186, by decide, ⟨by decide, by decide⟩, by decide +kernel⟩
abbrev MX13_add : MR := (({ cls := "TallySlate$Block", name := "add", desc := "(LTallySlate$Deed;)V" } : Jvm.MethodName), prog_3_method_2_code, 4, (Option.none : Option Jvm.ClassFile.FieldType), [])
theorem oX13_add : OKm MX13_add 1 := ⟨q1284, q186, by decide, ⟨by decide, by decide⟩, by decide +kernel⟩
abbrev MX13_act : MR := (({ cls := "TallySlate$Block", name := "act", desc := "(LTallySlate$Machine;)Z" } : Jvm.MethodName), prog_3_method_3_code, 3, (Option.some Jvm.ClassFile.FieldType.boolean), [])
theorem oX13_act : OKm MX13_act 1 := ⟨q1330, q186, by decide, ⟨by decide, by decide⟩, by decide +kernel⟩
abbrev MX14_init : MR := (({ cls := "TallySlate$Deed", name := "<init>", desc := "()V" } : Jvm.MethodName), prog_7_method_1_code, 1, (Option.none : Option Jvm.ClassFile.FieldType), [])
theorem oX14_init : OKm MX14_init 0 := ⟨q864, q187, by decide, ⟨by decide, by decide⟩, by decide +kernel⟩
abbrev MX15_init : MR := (({ cls := "TallySlate$If", name := "<init>", desc := "()V" } : Jvm.MethodName), prog_11_method_1_code, 1, (Option.none : Option Jvm.ClassFile.FieldType), [])
theorem oX15_init : OKm MX15_init 0 := ⟨q861, q188, by decide, ⟨by decide, by decide⟩, by decide +kernel⟩
abbrev MX15_act : MR := (({ cls := "TallySlate$If", name := "act", desc := "(LTallySlate$Machine;)Z" } : Jvm.MethodName), prog_11_method_2_code, 2, (Option.some Jvm.ClassFile.FieldType.boolean), [])
theorem oX15_act : OKm MX15_act 1 := ⟨q1978, q188, by decide, ⟨by decide, by decide⟩, by decide +kernel⟩
abbrev MX16_init : MR := (({ cls := "TallySlate$Node", name := "<init>", desc := "()V" } : Jvm.MethodName), prog_16_method_1_code, 1, (Option.none : Option Jvm.ClassFile.FieldType), [])
theorem oX16_init : OKm MX16_init 0 := ⟨q918, q189, by decide, ⟨by decide, by decide⟩, by decide +kernel⟩
abbrev MX17_init : MR := (({ cls := "TallySlate$Numeral", name := "<init>", desc := "(I)V" } : Jvm.MethodName), prog_18_method_1_code, 2, (Option.none : Option Jvm.ClassFile.FieldType), [])
theorem oX17_init : OKm MX17_init 1 := ⟨q915, q190, by decide, ⟨by decide, by decide⟩, by decide +kernel⟩
abbrev MX17_work : MR := (({ cls := "TallySlate$Numeral", name := "work", desc := "(LTallySlate$Machine;)V" } : Jvm.MethodName), prog_18_method_2_code, 2, (Option.none : Option Jvm.ClassFile.FieldType), [])
theorem oX17_work : OKm MX17_work 1 := ⟨q1368, q190, by decide, ⟨by decide, by decide⟩, by decide +kernel⟩
abbrev MX18_init : MR := (({ cls := "TallySlate$Literal", name := "<init>", desc := "()V" } : Jvm.MethodName), prog_12_method_1_code, 1, (Option.none : Option Jvm.ClassFile.FieldType), [])
theorem oX18_init : OKm MX18_init 0 := ⟨q948, q191, by decide, ⟨by decide, by decide⟩, by decide +kernel⟩
abbrev MX18_work : MR := (({ cls := "TallySlate$Literal", name := "work", desc := "(LTallySlate$Machine;)V" } : Jvm.MethodName), prog_12_method_2_code, 3, (Option.none : Option Jvm.ClassFile.FieldType), [])
theorem oX18_work : OKm MX18_work 1 := ⟨q1355, q191, by decide, ⟨by decide, by decide⟩, by decide +kernel⟩
abbrev MX19_init : MR := (({ cls := "TallySlate$Nodes", name := "<init>", desc := "()V" } : Jvm.MethodName), prog_17_method_1_code, 1, (Option.none : Option Jvm.ClassFile.FieldType), [])
theorem oX19_init : OKm MX19_init 0 := ⟨q954, q192, by decide, ⟨by decide, by decide⟩, by decide +kernel⟩
abbrev MX19_add : MR := (({ cls := "TallySlate$Nodes", name := "add", desc := "(LTallySlate$Node;II)V" } : Jvm.MethodName), prog_17_method_2_code, 4, (Option.none : Option Jvm.ClassFile.FieldType), [])
theorem oX19_add : OKm MX19_add 3 := ⟨q994, q192, by decide, ⟨by decide, by decide⟩, by decide +kernel⟩
abbrev MX19_grow : MR := (({ cls := "TallySlate$Nodes", name := "grow", desc := "()V" } : Jvm.MethodName), prog_17_method_3_code, 5, (Option.none : Option Jvm.ClassFile.FieldType), [])
theorem oX19_grow : OKm MX19_grow 0 := ⟨q998, q192, by decide, ⟨by decide, by decide⟩, by decide +kernel⟩
abbrev MX2_init : MR := (({ cls := "TallySlate$Scanner", name := "<init>", desc := "(LTallySlate$Fault;)V" } : Jvm.MethodName), prog_26_method_1_code, 2, (Option.none : Option Jvm.ClassFile.FieldType), [])
theorem oX2_init : OKm MX2_init 1 := ⟨q300, q168, by decide, ⟨by decide, by decide⟩, by decide +kernel⟩
abbrev MX2_wrong : MR := (({ cls := "TallySlate$Scanner", name := "wrong", desc := "(II)LTallySlate$Fault;" } : Jvm.MethodName), prog_26_method_2_code, 3, (Option.some (Jvm.ClassFile.FieldType.object "TallySlate$Fault")), [])
theorem oX2_wrong : OKm MX2_wrong 2 := ⟨q566, q168, by decide, ⟨by decide, by decide⟩, by decide +kernel⟩
abbrev MX2_begin : MR := (({ cls := "TallySlate$Scanner", name := "begin", desc := "([BI)V" } : Jvm.MethodName), prog_26_method_3_code, 3, (Option.none : Option Jvm.ClassFile.FieldType), [])
theorem oX2_begin : OKm MX2_begin 2 := ⟨q570, q168, by decide, ⟨by decide, by decide⟩, by decide +kernel⟩
abbrev MX2_next : MR := (({ cls := "TallySlate$Scanner", name := "next", desc := "()V" } : Jvm.MethodName), prog_26_method_7_code, 2, (Option.none : Option Jvm.ClassFile.FieldType), [])
theorem oX2_next : OKm MX2_next 0 := ⟨q612, q168, by decide, ⟨by decide, by decide⟩, by decide +kernel⟩
abbrev MX2_look : MR := (({ cls := "TallySlate$Scanner", name := "look", desc := "(I)I" } : Jvm.MethodName), prog_26_method_4_code, 2, (Option.some Jvm.ClassFile.FieldType.int), [])
theorem oX2_look : OKm MX2_look 1 := ⟨q616, q168, by decide, ⟨by decide, by decide⟩, by decide +kernel⟩
abbrev MX2_isLetter : MR := (({ cls := "TallySlate$Scanner", name := "isLetter", desc := "(I)Z" } : Jvm.MethodName), prog_26_method_5_code, 1, (Option.some Jvm.ClassFile.FieldType.boolean), [])
theorem oX2_isLetter : OKm MX2_isLetter 1 := ⟨q619, q168, by decide, ⟨by decide, by decide⟩, by decide +kernel⟩
abbrev MX2_word : MR := (({ cls := "TallySlate$Scanner", name := "word", desc := "()V" } : Jvm.MethodName), prog_26_method_8_code, 1, (Option.none : Option Jvm.ClassFile.FieldType), [])
theorem oX2_word : OKm MX2_word 0 := ⟨q623, q168, by decide, ⟨by decide, by decide⟩, by decide +kernel⟩
abbrev MX2_isDigit : MR := (({ cls := "TallySlate$Scanner", name := "isDigit", desc := "(I)Z" } : Jvm.MethodName), prog_26_method_6_code, 1, (Option.some Jvm.ClassFile.FieldType.boolean), [])
theorem oX2_isDigit : OKm MX2_isDigit 1 := ⟨q627, q168, by decide, ⟨by decide, by decide⟩, by decide +kernel⟩
abbrev MX2_number : MR := (({ cls := "TallySlate$Scanner", name := "number", desc := "()V" } : Jvm.MethodName), prog_26_method_9_code, 3, (Option.none : Option Jvm.ClassFile.FieldType), [])
theorem oX2_number : OKm MX2_number 0 := ⟨q631, q168, by decide, ⟨by decide, by decide⟩, by decide +kernel⟩
abbrev MX2_sign : MR := (({ cls := "TallySlate$Scanner", name := "sign", desc := "(I)V" } : Jvm.MethodName), prog_26_method_10_code, 3, (Option.none : Option Jvm.ClassFile.FieldType), [])
theorem oX2_sign : OKm MX2_sign 1 := ⟨q638, q168, by decide, ⟨by decide, by decide⟩, by decide +kernel⟩
abbrev MX2_isWord : MR := (({ cls := "TallySlate$Scanner", name := "isWord", desc := "(Ljava/lang/String;)Z" } : Jvm.MethodName), prog_26_method_12_code, 3, (Option.some Jvm.ClassFile.FieldType.boolean), [])
theorem oX2_isWord : OKm MX2_isWord 1 := ⟨q730, q168, by decide, ⟨by decide, by decide⟩, by decide +kernel⟩
abbrev MX2_name : MR := (({ cls := "TallySlate$Scanner", name := "name", desc := "()J" } : Jvm.MethodName), prog_26_method_14_code, 4, (Option.some Jvm.ClassFile.FieldType.long), [])
theorem oX2_name : OKm MX2_name 0 := ⟨q808, q168, by decide, ⟨by decide, by decide⟩, by decide +kernel⟩
abbrev MX2_take : MR := (({ cls := "TallySlate$Scanner", name := "take", desc := "(I)V" } : Jvm.MethodName), prog_26_method_15_code, 2, (Option.none : Option Jvm.ClassFile.FieldType), [])
theorem oX2_take : OKm MX2_take 1 := ⟨q818, q168, by decide, ⟨by decide, by decide⟩, by decide +kernel⟩
abbrev MX2_is : MR := (({ cls := "TallySlate$Scanner", name := "is", desc := "(I)Z" } : Jvm.MethodName), prog_26_method_11_code, 2, (Option.some Jvm.ClassFile.FieldType.boolean), [])
theorem oX2_is : OKm MX2_is 1 := ⟨q822, q168, by decide, ⟨by decide, by decide⟩, by decide +kernel⟩
abbrev MX2_isCalled : MR := (({ cls := "TallySlate$Scanner", name := "isCalled", desc := "()Z" } : Jvm.MethodName), prog_26_method_13_code, 2, (Option.some Jvm.ClassFile.FieldType.boolean), [])
theorem oX2_isCalled : OKm MX2_isCalled 0 := ⟨q1002, q168, by decide, ⟨by decide, by decide⟩, by decide +kernel⟩
abbrev MX20_init : MR := (({ cls := "TallySlate$BuiltIn", name := "<init>", desc := "(I)V" } : Jvm.MethodName), prog_4_method_1_code, 2, (Option.none : Option Jvm.ClassFile.FieldType), [])
theorem oX20_init : OKm MX20_init 1 := ⟨q1015, q193, by decide, ⟨by decide, by decide⟩, by decide +kernel⟩
abbrev MX20_work : MR := (({ cls := "TallySlate$BuiltIn", name := "work", desc := "(LTallySlate$Machine;)V" } : Jvm.MethodName), prog_4_method_2_code, 3, (Option.none : Option Jvm.ClassFile.FieldType), [])
theorem oX20_work : OKm MX20_work 1 := ⟨q1346, q193, by decide, ⟨by decide, by decide⟩, by decide +kernel⟩
abbrev MX21_init : MR := (({ cls := "TallySlate$Call", name := "<init>", desc := "(I)V" } : Jvm.MethodName), prog_5_method_1_code, 2, (Option.none : Option Jvm.ClassFile.FieldType), [])
theorem oX21_init : OKm MX21_init 1 := ⟨q1037, q194, by decide, ⟨by decide, by decide⟩, by decide +kernel⟩
abbrev MX21_work : MR := (({ cls := "TallySlate$Call", name := "work", desc := "(LTallySlate$Machine;)V" } : Jvm.MethodName), prog_5_method_2_code, 3, (Option.none : Option Jvm.ClassFile.FieldType), [])
theorem oX21_work : OKm MX21_work 1 := ⟨q1349, q194, by decide, ⟨by decide, by decide⟩, by decide +kernel⟩
abbrev MX22_init : MR := (({ cls := "TallySlate$Name", name := "<init>", desc := "(I)V" } : Jvm.MethodName), prog_15_method_1_code, 2, (Option.none : Option Jvm.ClassFile.FieldType), [])
theorem oX22_init : OKm MX22_init 1 := ⟨q1076, q195, by decide, ⟨by decide, by decide⟩, by decide +kernel⟩
abbrev MX22_work : MR := (({ cls := "TallySlate$Name", name := "work", desc := "(LTallySlate$Machine;)V" } : Jvm.MethodName), prog_15_method_2_code, 2, (Option.none : Option Jvm.ClassFile.FieldType), [])
theorem oX22_work : OKm MX22_work 1 := ⟨q1358, q195, by decide, ⟨by decide, by decide⟩, by decide +kernel⟩
abbrev MX23_init : MR := (({ cls := "TallySlate$Places", name := "<init>", desc := "()V" } : Jvm.MethodName), prog_21_method_1_code, 1, (Option.none : Option Jvm.ClassFile.FieldType), [])
theorem oX23_init : OKm MX23_init 0 := ⟨q1087, q196, by decide, ⟨by decide, by decide⟩, by decide +kernel⟩
abbrev MX23_work : MR := (({ cls := "TallySlate$Places", name := "work", desc := "(LTallySlate$Machine;)V" } : Jvm.MethodName), prog_21_method_2_code, 3, (Option.none : Option Jvm.ClassFile.FieldType), [])
theorem oX23_work : OKm MX23_work 1 := ⟨q1371, q196, by decide, ⟨by decide, by decide⟩, by decide +kernel⟩
abbrev MX24_init : MR := (({ cls := "TallySlate$Prefix", name := "<init>", desc := "(LTallySlate$Node;Z)V" } : Jvm.MethodName), prog_23_method_1_code, 3, (Option.none : Option Jvm.ClassFile.FieldType), [])
theorem oX24_init : OKm MX24_init 2 := ⟨q1101, q197, by decide, ⟨by decide, by decide⟩, by decide +kernel⟩
abbrev MX24_work : MR := (({ cls := "TallySlate$Prefix", name := "work", desc := "(LTallySlate$Machine;)V" } : Jvm.MethodName), prog_23_method_2_code, 2, (Option.none : Option Jvm.ClassFile.FieldType), [])
theorem oX24_work : OKm MX24_work 1 := ⟨q1374, q197, by decide, ⟨by decide, by decide⟩, by decide +kernel⟩
abbrev MX25_init : MR := (({ cls := "TallySlate$Chain", name := "<init>", desc := "()V" } : Jvm.MethodName), prog_6_method_1_code, 1, (Option.none : Option Jvm.ClassFile.FieldType), [])
theorem oX25_init : OKm MX25_init 0 := ⟨q1119, q198, by decide, ⟨by decide, by decide⟩, by decide +kernel⟩
abbrev MX25_work : MR := (({ cls := "TallySlate$Chain", name := "work", desc := "(LTallySlate$Machine;)V" } : Jvm.MethodName), prog_6_method_2_code, 3, (Option.none : Option Jvm.ClassFile.FieldType), [])
theorem oX25_work : OKm MX25_work 1 := ⟨q1352, q198, by decide, ⟨by decide, by decide⟩, by decide +kernel⟩
abbrev MX26_init : MR := (({ cls := "TallySlate$While", name := "<init>", desc := "()V" } : Jvm.MethodName), prog_33_method_1_code, 1, (Option.none : Option Jvm.ClassFile.FieldType), [])
theorem oX26_init : OKm MX26_init 0 := ⟨q1139, q199, by decide, ⟨by decide, by decide⟩, by decide +kernel⟩
abbrev MX26_act : MR := (({ cls := "TallySlate$While", name := "act", desc := "(LTallySlate$Machine;)Z" } : Jvm.MethodName), prog_33_method_2_code, 3, (Option.some Jvm.ClassFile.FieldType.boolean), [])
theorem oX26_act : OKm MX26_act 1 := ⟨q2048, q199, by decide, ⟨by decide, by decide⟩, by decide +kernel⟩
abbrev MX27_init : MR := (({ cls := "TallySlate$For", name := "<init>", desc := "()V" } : Jvm.MethodName), prog_10_method_1_code, 1, (Option.none : Option Jvm.ClassFile.FieldType), [])
theorem oX27_init : OKm MX27_init 0 := ⟨q1160, q200, by decide, ⟨by decide, by decide⟩, by decide +kernel⟩
abbrev MX27_act : MR := (({ cls := "TallySlate$For", name := "act", desc := "(LTallySlate$Machine;)Z" } : Jvm.MethodName), prog_10_method_2_code, 5, (Option.some Jvm.ClassFile.FieldType.boolean), [])
theorem oX27_act : OKm MX27_act 1 := ⟨q1961, q200, by decide, ⟨by decide, by decide⟩, by decide +kernel⟩
abbrev MX28_init : MR := (({ cls := "TallySlate$Plain", name := "<init>", desc := "(I)V" } : Jvm.MethodName), prog_22_method_1_code, 2, (Option.none : Option Jvm.ClassFile.FieldType), [])
theorem oX28_init : OKm MX28_init 1 := ⟨q1190, q201, by decide, ⟨by decide, by decide⟩, by decide +kernel⟩
abbrev MX28_act : MR := (({ cls := "TallySlate$Plain", name := "act", desc := "(LTallySlate$Machine;)Z" } : Jvm.MethodName), prog_22_method_2_code, 2, (Option.some Jvm.ClassFile.FieldType.boolean), [])
theorem oX28_act : OKm MX28_act 1 := ⟨q1988, q201, by decide, ⟨by decide, by decide⟩, by decide +kernel⟩
abbrev MX29_init : MR := (({ cls := "TallySlate$Try", name := "<init>", desc := "()V" } : Jvm.MethodName), prog_32_method_1_code, 1, (Option.none : Option Jvm.ClassFile.FieldType), [])
theorem oX29_init : OKm MX29_init 0 := ⟨q1212, q202, by decide, ⟨by decide, by decide⟩, by decide +kernel⟩
abbrev MX29_act : MR := (({ cls := "TallySlate$Try", name := "act", desc := "(LTallySlate$Machine;)Z" } : Jvm.MethodName), prog_32_method_2_code, 5, (Option.some Jvm.ClassFile.FieldType.boolean), [((10 : Nat), (18 : Nat), (19 : Nat), (28 : Nat))])
theorem oX29_act : OKm MX29_act 1 := ⟨q2038, q202, by decide, ⟨by decide, by decide⟩, by decide +kernel⟩
abbrev MX3_init : MR := (({ cls := "TallySlate$Machine", name := "<init>", desc := "()V" } : Jvm.MethodName), prog_13_method_1_code, 1, (Option.none : Option Jvm.ClassFile.FieldType), [])
theorem oX3_init : OKm MX3_init 0 := ⟨q334, q169, by decide, ⟨by decide, by decide⟩, by decide +kernel⟩
abbrev MX3_begin : MR := (({ cls := "TallySlate$Machine", name := "begin", desc := "(I)V" } : Jvm.MethodName), prog_13_method_2_code, 2, (Option.none : Option Jvm.ClassFile.FieldType), [])
theorem oX3_begin : OKm MX3_begin 1 := ⟨q1312, q169, by decide, ⟨by decide, by decide⟩, by decide +kernel⟩
abbrev MX3_call : MR := (({ cls := "TallySlate$Machine", name := "call", desc := "(LTallySlate$Definition;I)V" } : Jvm.MethodName), prog_13_method_25_code, 5, (Option.none : Option Jvm.ClassFile.FieldType), [])
theorem oX3_call : OKm MX3_call 2 := ⟨q1321, q169, by decide, ⟨by decide, by decide⟩, by decide +kernel⟩
abbrev MX3_wrong : MR := (({ cls := "TallySlate$Machine", name := "wrong", desc := "(II)LTallySlate$Trouble;" } : Jvm.MethodName), prog_13_method_3_code, 3, (Option.some (Jvm.ClassFile.FieldType.object "TallySlate$Trouble")), [])
theorem oX3_wrong : OKm MX3_wrong 2 := ⟨q1325, q169, by decide, ⟨by decide, by decide⟩, by decide +kernel⟩
abbrev MX3_step : MR := (({ cls := "TallySlate$Machine", name := "step", desc := "(I)V" } : Jvm.MethodName), prog_13_method_4_code, 2, (Option.none : Option Jvm.ClassFile.FieldType), [])
theorem oX3_step : OKm MX3_step 1 := ⟨q1334, q169, by decide, ⟨by decide, by decide⟩, by decide +kernel⟩
abbrev MX3_value : MR := (({ cls := "TallySlate$Machine", name := "value", desc := "(II)V" } : Jvm.MethodName), prog_13_method_17_code, 4, (Option.none : Option Jvm.ClassFile.FieldType), [])
theorem oX3_value : OKm MX3_value 2 := ⟨q1362, q169, by decide, ⟨by decide, by decide⟩, by decide +kernel⟩
abbrev MX3_push : MR := (({ cls := "TallySlate$Machine", name := "push", desc := "(I)V" } : Jvm.MethodName), prog_13_method_6_code, 2, (Option.none : Option Jvm.ClassFile.FieldType), [])
theorem oX3_push : OKm MX3_push 1 := ⟨q1366, q169, by decide, ⟨by decide, by decide⟩, by decide +kernel⟩
abbrev MX3_give : MR := (({ cls := "TallySlate$Machine", name := "give", desc := "(II)V" } : Jvm.MethodName), prog_13_method_11_code, 3, (Option.none : Option Jvm.ClassFile.FieldType), [])
theorem oX3_give : OKm MX3_give 2 := ⟨q1386, q169, by decide, ⟨by decide, by decide⟩, by decide +kernel⟩
abbrev MX3_give_2 : MR := (({ cls := "TallySlate$Machine", name := "give", desc := "(LTallySlate$Thing;II)V" } : Jvm.MethodName), prog_13_method_10_code, 4, (Option.none : Option Jvm.ClassFile.FieldType), [])
theorem oX3_give_2 : OKm MX3_give_2 3 := ⟨q1414, q169, by decide, ⟨by decide, by decide⟩, by decide +kernel⟩
abbrev MX3_makes : MR := (({ cls := "TallySlate$Machine", name := "makes", desc := "(II)V" } : Jvm.MethodName), prog_13_method_5_code, 3, (Option.none : Option Jvm.ClassFile.FieldType), [])
theorem oX3_makes : OKm MX3_makes 2 := ⟨q1437, q169, by decide, ⟨by decide, by decide⟩, by decide +kernel⟩
abbrev MX3_push_2 : MR := (({ cls := "TallySlate$Machine", name := "push", desc := "(LTallySlate$Thing;)V" } : Jvm.MethodName), prog_13_method_7_code, 3, (Option.none : Option Jvm.ClassFile.FieldType), [])
theorem oX3_push_2 : OKm MX3_push_2 1 := ⟨q1441, q169, by decide, ⟨by decide, by decide⟩, by decide +kernel⟩
abbrev MX3_at : MR := (({ cls := "TallySlate$Machine", name := "at", desc := "(I)V" } : Jvm.MethodName), prog_13_method_29_code, 5, (Option.none : Option Jvm.ClassFile.FieldType), [((46 : Nat), (92 : Nat), (95 : Nat), (245 : Nat))])
theorem oX3_at : OKm MX3_at 1 := ⟨q1487, q169, by decide, ⟨by decide, by decide⟩, by decide +kernel⟩
abbrev MX3_one : MR := (({ cls := "TallySlate$Machine", name := "one", desc := "(LTallySlate$Thing;II)V" } : Jvm.MethodName), prog_13_method_30_code, 6, (Option.none : Option Jvm.ClassFile.FieldType), [])
theorem oX3_one : OKm MX3_one 3 := ⟨q1524, q169, by decide, ⟨by decide, by decide⟩, by decide +kernel⟩
abbrev MX3_literal : MR := (({ cls := "TallySlate$Machine", name := "literal", desc := "(II)V" } : Jvm.MethodName), prog_13_method_28_code, 6, (Option.none : Option Jvm.ClassFile.FieldType), [])
theorem oX3_literal : OKm MX3_literal 2 := ⟨q1608, q169, by decide, ⟨by decide, by decide⟩, by decide +kernel⟩
abbrev MX3_isInt : MR := (({ cls := "TallySlate$Machine", name := "isInt", desc := "(I)Z" } : Jvm.MethodName), prog_13_method_12_code, 2, (Option.some Jvm.ClassFile.FieldType.boolean), [])
theorem oX3_isInt : OKm MX3_isInt 1 := ⟨q1612, q169, by decide, ⟨by decide, by decide⟩, by decide +kernel⟩
abbrev MX3_each : MR := (({ cls := "TallySlate$Machine", name := "each", desc := "(LTallySlate$Definition;I)V" } : Jvm.MethodName), prog_13_method_26_code, 9, (Option.none : Option Jvm.ClassFile.FieldType), [])
theorem oX3_each : OKm MX3_each 2 := ⟨q1648, q169, by decide, ⟨by decide, by decide⟩, by decide +kernel⟩
abbrev MX3_item : MR := (({ cls := "TallySlate$Machine", name := "item", desc := "(II)V" } : Jvm.MethodName), prog_13_method_24_code, 6, (Option.none : Option Jvm.ClassFile.FieldType), [])
theorem oX3_item : OKm MX3_item 2 := ⟨q1653, q169, by decide, ⟨by decide, by decide⟩, by decide +kernel⟩
abbrev MX3_asThing : MR := (({ cls := "TallySlate$Machine", name := "asThing", desc := "(I)LTallySlate$Thing;" } : Jvm.MethodName), prog_13_method_16_code, 2, (Option.some (Jvm.ClassFile.FieldType.object "TallySlate$Thing")), [])
theorem oX3_asThing : OKm MX3_asThing 1 := ⟨q1663, q169, by decide, ⟨by decide, by decide⟩, by decide +kernel⟩
abbrev MX3_fold : MR := (({ cls := "TallySlate$Machine", name := "fold", desc := "(LTallySlate$Definition;I)V" } : Jvm.MethodName), prog_13_method_27_code, 7, (Option.none : Option Jvm.ClassFile.FieldType), [])
theorem oX3_fold : OKm MX3_fold 2 := ⟨q1682, q169, by decide, ⟨by decide, by decide⟩, by decide +kernel⟩
abbrev MX3_down : MR := (({ cls := "TallySlate$Machine", name := "down", desc := "(I)V" } : Jvm.MethodName), prog_13_method_9_code, 2, (Option.none : Option Jvm.ClassFile.FieldType), [])
theorem oX3_down : OKm MX3_down 1 := ⟨q1686, q169, by decide, ⟨by decide, by decide⟩, by decide +kernel⟩
abbrev MX3_builtIn : MR := (({ cls := "TallySlate$Machine", name := "builtIn", desc := "(III)V" } : Jvm.MethodName), prog_13_method_32_code, 4, (Option.none : Option Jvm.ClassFile.FieldType), [])
theorem oX3_builtIn : OKm MX3_builtIn 3 := ⟨q1691, q169, by decide, ⟨by decide, by decide⟩, by decide +kernel⟩
abbrev MX3_asInt : MR := (({ cls := "TallySlate$Machine", name := "asInt", desc := "(II)I" } : Jvm.MethodName), prog_13_method_13_code, 3, (Option.some Jvm.ClassFile.FieldType.int), [])
theorem oX3_asInt : OKm MX3_asInt 2 := ⟨q1699, q169, by decide, ⟨by decide, by decide⟩, by decide +kernel⟩
abbrev MX3_asRow : MR := (({ cls := "TallySlate$Machine", name := "asRow", desc := "(II)LTallySlate$Row;" } : Jvm.MethodName), prog_13_method_14_code, 5, (Option.some (Jvm.ClassFile.FieldType.object "TallySlate$Row")), [])
theorem oX3_asRow : OKm MX3_asRow 2 := ⟨q1733, q169, by decide, ⟨by decide, by decide⟩, by decide +kernel⟩
abbrev MX3_asTable : MR := (({ cls := "TallySlate$Machine", name := "asTable", desc := "(II)LTallySlate$Table;" } : Jvm.MethodName), prog_13_method_15_code, 5, (Option.some (Jvm.ClassFile.FieldType.object "TallySlate$Table")), [])
theorem oX3_asTable : OKm MX3_asTable 2 := ⟨q1751, q169, by decide, ⟨by decide, by decide⟩, by decide +kernel⟩
abbrev MX3_put : MR := (({ cls := "TallySlate$Machine", name := "put", desc := "(I)V" } : Jvm.MethodName), prog_13_method_18_code, 3, (Option.none : Option Jvm.ClassFile.FieldType), [])
theorem oX3_put : OKm MX3_put 1 := ⟨q1937, q169, by decide, ⟨by decide, by decide⟩, by decide +kernel⟩
abbrev MX3_change : MR := (({ cls := "TallySlate$Machine", name := "change", desc := "(LTallySlate$Assign;)V" } : Jvm.MethodName), prog_13_method_31_code, 10, (Option.none : Option Jvm.ClassFile.FieldType), [((201 : Nat), (242 : Nat), (245 : Nat), (245 : Nat))])
theorem oX3_change : OKm MX3_change 1 := ⟨q1945, q169, by decide, ⟨by decide, by decide⟩, by decide +kernel⟩
abbrev MX3_rounds : MR := (({ cls := "TallySlate$Machine", name := "rounds", desc := "(I)I" } : Jvm.MethodName), prog_13_method_23_code, 2, (Option.some Jvm.ClassFile.FieldType.int), [])
theorem oX3_rounds : OKm MX3_rounds 1 := ⟨q1966, q169, by decide, ⟨by decide, by decide⟩, by decide +kernel⟩
abbrev MX3_drop : MR := (({ cls := "TallySlate$Machine", name := "drop", desc := "()V" } : Jvm.MethodName), prog_13_method_8_code, 1, (Option.none : Option Jvm.ClassFile.FieldType), [])
theorem oX3_drop : OKm MX3_drop 0 := ⟨q1975, q169, by decide, ⟨by decide, by decide⟩, by decide +kernel⟩
abbrev MX3_isTrue : MR := (({ cls := "TallySlate$Machine", name := "isTrue", desc := "(I)Z" } : Jvm.MethodName), prog_13_method_19_code, 3, (Option.some Jvm.ClassFile.FieldType.boolean), [])
theorem oX3_isTrue : OKm MX3_isTrue 1 := ⟨q1983, q169, by decide, ⟨by decide, by decide⟩, by decide +kernel⟩
abbrev MX3_say : MR := (({ cls := "TallySlate$Machine", name := "say", desc := "()V" } : Jvm.MethodName), prog_13_method_20_code, 1, (Option.none : Option Jvm.ClassFile.FieldType), [])
theorem oX3_say : OKm MX3_say 0 := ⟨q1993, q169, by decide, ⟨by decide, by decide⟩, by decide +kernel⟩
abbrev MX3_raise : MR := (({ cls := "TallySlate$Machine", name := "raise", desc := "(I)V" } : Jvm.MethodName), prog_13_method_21_code, 3, (Option.none : Option Jvm.ClassFile.FieldType), [])
theorem oX3_raise : OKm MX3_raise 1 := ⟨q2034, q169, by decide, ⟨by decide, by decide⟩, by decide +kernel⟩
abbrev MX3_taken : MR := (({ cls := "TallySlate$Machine", name := "taken", desc := "(LTallySlate$Trouble;III)V" } : Jvm.MethodName), prog_13_method_22_code, 6, (Option.none : Option Jvm.ClassFile.FieldType), [])
theorem oX3_taken : OKm MX3_taken 4 := ⟨q2044, q169, by decide, ⟨by decide, by decide⟩, by decide +kernel⟩
abbrev MX30_init : MR := (({ cls := "TallySlate$Assign", name := "<init>", desc := "()V" } : Jvm.MethodName), prog_2_method_1_code, 1, (Option.none : Option Jvm.ClassFile.FieldType), [])
theorem oX30_init : OKm MX30_init 0 := ⟨q1245, q203, by decide, ⟨by decide, by decide⟩, by decide +kernel⟩
abbrev MX30_act : MR := (({ cls := "TallySlate$Assign", name := "act", desc := "(LTallySlate$Machine;)Z" } : Jvm.MethodName), prog_2_method_2_code, 2, (Option.some Jvm.ClassFile.FieldType.boolean), [])
theorem oX30_act : OKm MX30_act 1 := ⟨q1340, q203, by decide, ⟨by decide, by decide⟩, by decide +kernel⟩
abbrev MX31_init : MR := (({ cls := "TallySlate$Thing", name := "<init>", desc := "()V" } : Jvm.MethodName), prog_30_method_1_code, 1, (Option.none : Option Jvm.ClassFile.FieldType), [])
theorem oX31_init : OKm MX31_init 0 := ⟨q1400, q204, by decide, ⟨by decide, by decide⟩, by decide +kernel⟩
abbrev MX31_depth : MR := (({ cls := "TallySlate$Thing", name := "depth", desc := "()I" } : Jvm.MethodName), prog_30_method_9_code, 1, (Option.some Jvm.ClassFile.FieldType.int), [])
theorem oX31_depth : OKm MX31_depth 0 := ⟨q1571, q204, by decide, ⟨by decide, by decide⟩, by decide +kernel⟩
abbrev MX32_init : MR := (({ cls := "TallySlate$Row", name := "<init>", desc := "([I)V" } : Jvm.MethodName), prog_25_method_1_code, 2, (Option.none : Option Jvm.ClassFile.FieldType), [])
theorem oX32_init : OKm MX32_init 1 := ⟨q1397, q205, by decide, ⟨by decide, by decide⟩, by decide +kernel⟩
abbrev MX32_made : MR := (({ cls := "TallySlate$Row", name := "made", desc := "()I" } : Jvm.MethodName), prog_25_method_5_code, 1, (Option.some Jvm.ClassFile.FieldType.int), [])
theorem oX32_made : OKm MX32_made 0 := ⟨q1423, q205, by decide, ⟨by decide, by decide⟩, by decide +kernel⟩
abbrev MX32_size : MR := (({ cls := "TallySlate$Row", name := "size", desc := "()I" } : Jvm.MethodName), prog_25_method_3_code, 1, (Option.some Jvm.ClassFile.FieldType.int), [])
theorem oX32_size : OKm MX32_size 0 := ⟨q1455, q205, by decide, ⟨by decide, by decide⟩, by decide +kernel⟩
abbrev MX32_bulk : MR := (({ cls := "TallySlate$Row", name := "bulk", desc := "()I" } : Jvm.MethodName), prog_25_method_4_code, 1, (Option.some Jvm.ClassFile.FieldType.int), [])
theorem oX32_bulk : OKm MX32_bulk 0 := ⟨q1581, q205, by decide, ⟨by decide, by decide⟩, by decide +kernel⟩
abbrev MX32_kind : MR := (({ cls := "TallySlate$Row", name := "kind", desc := "()I" } : Jvm.MethodName), prog_25_method_2_code, 1, (Option.some Jvm.ClassFile.FieldType.int), [])
theorem oX32_kind : OKm MX32_kind 0 := ⟨q1766, q205, by decide, ⟨by decide, by decide⟩, by decide +kernel⟩
abbrev MX32_same : MR := (({ cls := "TallySlate$Row", name := "same", desc := "(LTallySlate$Thing;)Z" } : Jvm.MethodName), prog_25_method_7_code, 3, (Option.some Jvm.ClassFile.FieldType.boolean), [])
theorem oX32_same : OKm MX32_same 1 := ⟨q1912, q205, by decide, ⟨by decide, by decide⟩, by decide +kernel⟩
abbrev MX32_alike : MR := (({ cls := "TallySlate$Row", name := "alike", desc := "([I[I)Z" } : Jvm.MethodName), prog_25_method_6_code, 4, (Option.some Jvm.ClassFile.FieldType.boolean), [])
theorem oX32_alike : OKm MX32_alike 2 := ⟨q1916, q205, by decide, ⟨by decide, by decide⟩, by decide +kernel⟩
abbrev MX32_form : MR := (({ cls := "TallySlate$Row", name := "form", desc := "(LTallySlate$Output;)V" } : Jvm.MethodName), prog_25_method_9_code, 2, (Option.none : Option Jvm.ClassFile.FieldType), [])
theorem oX32_form : OKm MX32_form 1 := ⟨q2014, q205, by decide, ⟨by decide, by decide⟩, by decide +kernel⟩
abbrev MX32_form_2 : MR := (({ cls := "TallySlate$Row", name := "form", desc := "([ILTallySlate$Output;)V" } : Jvm.MethodName), prog_25_method_8_code, 3, (Option.none : Option Jvm.ClassFile.FieldType), [])
theorem oX32_form_2 : OKm MX32_form_2 2 := ⟨q2017, q205, by decide, ⟨by decide, by decide⟩, by decide +kernel⟩
abbrev MX32_sum : MR := (({ cls := "TallySlate$Row", name := "sum", desc := "(J)J" } : Jvm.MethodName), prog_25_method_11_code, 3, (Option.some Jvm.ClassFile.FieldType.long), [])
theorem oX32_sum : OKm MX32_sum 1 := ⟨q2163, q205, by decide, ⟨by decide, by decide⟩, by decide +kernel⟩
abbrev MX32_sum_2 : MR := (({ cls := "TallySlate$Row", name := "sum", desc := "([IJ)J" } : Jvm.MethodName), prog_25_method_10_code, 6, (Option.some Jvm.ClassFile.FieldType.long), [])
theorem oX32_sum_2 : OKm MX32_sum_2 2 := ⟨q2167, q205, by decide, ⟨by decide, by decide⟩, by decide +kernel⟩
abbrev MX33_made : MR := (({ cls := "TallySlate$Table", name := "made", desc := "()I" } : Jvm.MethodName), prog_29_method_8_code, 1, (Option.some Jvm.ClassFile.FieldType.int), [])
theorem oX33_made : OKm MX33_made 0 := ⟨q1426, q206, by decide, ⟨by decide, by decide⟩, by decide +kernel⟩
abbrev MX33_ints : MR := (({ cls := "TallySlate$Table", name := "ints", desc := "()I" } : Jvm.MethodName), prog_29_method_5_code, 3, (Option.some Jvm.ClassFile.FieldType.int), [])
theorem oX33_ints : OKm MX33_ints 0 := ⟨q1430, q206, by decide, ⟨by decide, by decide⟩, by decide +kernel⟩
abbrev MX33_size : MR := (({ cls := "TallySlate$Table", name := "size", desc := "()I" } : Jvm.MethodName), prog_29_method_4_code, 1, (Option.some Jvm.ClassFile.FieldType.int), [])
theorem oX33_size : OKm MX33_size 0 := ⟨q1458, q206, by decide, ⟨by decide, by decide⟩, by decide +kernel⟩
abbrev MX33_init : MR := (({ cls := "TallySlate$Table", name := "<init>", desc := "([[I)V" } : Jvm.MethodName), prog_29_method_1_code, 2, (Option.none : Option Jvm.ClassFile.FieldType), [])
theorem oX33_init : OKm MX33_init 1 := ⟨q1470, q206, by decide, ⟨by decide, by decide⟩, by decide +kernel⟩
abbrev MX33_row : MR := (({ cls := "TallySlate$Table", name := "row", desc := "(I)LTallySlate$Row;" } : Jvm.MethodName), prog_29_method_2_code, 2, (Option.some (Jvm.ClassFile.FieldType.object "TallySlate$Row")), [])
theorem oX33_row : OKm MX33_row 1 := ⟨q1530, q206, by decide, ⟨by decide, by decide⟩, by decide +kernel⟩
abbrev MX33_bulk : MR := (({ cls := "TallySlate$Table", name := "bulk", desc := "()I" } : Jvm.MethodName), prog_29_method_7_code, 1, (Option.some Jvm.ClassFile.FieldType.int), [])
theorem oX33_bulk : OKm MX33_bulk 0 := ⟨q1584, q206, by decide, ⟨by decide, by decide⟩, by decide +kernel⟩
abbrev MX33_kind : MR := (({ cls := "TallySlate$Table", name := "kind", desc := "()I" } : Jvm.MethodName), prog_29_method_3_code, 1, (Option.some Jvm.ClassFile.FieldType.int), [])
theorem oX33_kind : OKm MX33_kind 0 := ⟨q1769, q206, by decide, ⟨by decide, by decide⟩, by decide +kernel⟩
abbrev MX33_widest : MR := (({ cls := "TallySlate$Table", name := "widest", desc := "()I" } : Jvm.MethodName), prog_29_method_6_code, 3, (Option.some Jvm.ClassFile.FieldType.int), [])
theorem oX33_widest : OKm MX33_widest 0 := ⟨q1835, q206, by decide, ⟨by decide, by decide⟩, by decide +kernel⟩
abbrev MX33_same : MR := (({ cls := "TallySlate$Table", name := "same", desc := "(LTallySlate$Thing;)Z" } : Jvm.MethodName), prog_29_method_9_code, 5, (Option.some Jvm.ClassFile.FieldType.boolean), [])
theorem oX33_same : OKm MX33_same 1 := ⟨q1918, q206, by decide, ⟨by decide, by decide⟩, by decide +kernel⟩
abbrev MX33_form : MR := (({ cls := "TallySlate$Table", name := "form", desc := "(LTallySlate$Output;)V" } : Jvm.MethodName), prog_29_method_10_code, 3, (Option.none : Option Jvm.ClassFile.FieldType), [])
theorem oX33_form : OKm MX33_form 1 := ⟨q2021, q206, by decide, ⟨by decide, by decide⟩, by decide +kernel⟩
abbrev MX33_sum : MR := (({ cls := "TallySlate$Table", name := "sum", desc := "(J)J" } : Jvm.MethodName), prog_29_method_11_code, 6, (Option.some Jvm.ClassFile.FieldType.long), [])
theorem oX33_sum : OKm MX33_sum 1 := ⟨q2169, q206, by decide, ⟨by decide, by decide⟩, by decide +kernel⟩
abbrev MX34_made : MR := (({ cls := "TallySlate$Pack", name := "made", desc := "()I" } : Jvm.MethodName), prog_20_method_4_code, 1, (Option.some Jvm.ClassFile.FieldType.int), [])
theorem oX34_made : OKm MX34_made 0 := ⟨q1420, q209, by decide, ⟨by decide, by decide⟩, by decide +kernel⟩
abbrev MX34_size : MR := (({ cls := "TallySlate$Pack", name := "size", desc := "()I" } : Jvm.MethodName), prog_20_method_3_code, 1, (Option.some Jvm.ClassFile.FieldType.int), [])
theorem oX34_size : OKm MX34_size 0 := ⟨q1452, q209, by decide, ⟨by decide, by decide⟩, by decide +kernel⟩
abbrev MX34_init : MR := (({ cls := "TallySlate$Pack", name := "<init>", desc := "([LTallySlate$Thing;)V" } : Jvm.MethodName), prog_20_method_1_code, 5, (Option.none : Option Jvm.ClassFile.FieldType), [])
theorem oX34_init : OKm MX34_init 1 := ⟨q1560, q209, by decide, ⟨by decide, by decide⟩, by decide +kernel⟩
abbrev MX34_depth : MR := (({ cls := "TallySlate$Pack", name := "depth", desc := "()I" } : Jvm.MethodName), prog_20_method_5_code, 1, (Option.some Jvm.ClassFile.FieldType.int), [])
theorem oX34_depth : OKm MX34_depth 0 := ⟨q1567, q209, by decide, ⟨by decide, by decide⟩, by decide +kernel⟩
abbrev MX34_bulk : MR := (({ cls := "TallySlate$Pack", name := "bulk", desc := "()I" } : Jvm.MethodName), prog_20_method_6_code, 1, (Option.some Jvm.ClassFile.FieldType.int), [])
theorem oX34_bulk : OKm MX34_bulk 0 := ⟨q1578, q209, by decide, ⟨by decide, by decide⟩, by decide +kernel⟩
abbrev MX34_kind : MR := (({ cls := "TallySlate$Pack", name := "kind", desc := "()I" } : Jvm.MethodName), prog_20_method_2_code, 1, (Option.some Jvm.ClassFile.FieldType.int), [])
theorem oX34_kind : OKm MX34_kind 0 := ⟨q1763, q209, by decide, ⟨by decide, by decide⟩, by decide +kernel⟩
abbrev MX34_same : MR := (({ cls := "TallySlate$Pack", name := "same", desc := "(LTallySlate$Thing;)Z" } : Jvm.MethodName), prog_20_method_7_code, 5, (Option.some Jvm.ClassFile.FieldType.boolean), [])
theorem oX34_same : OKm MX34_same 1 := ⟨q1908, q209, by decide, ⟨by decide, by decide⟩, by decide +kernel⟩
abbrev MX34_form : MR := (({ cls := "TallySlate$Pack", name := "form", desc := "(LTallySlate$Output;)V" } : Jvm.MethodName), prog_20_method_8_code, 3, (Option.none : Option Jvm.ClassFile.FieldType), [])
theorem oX34_form : OKm MX34_form 1 := ⟨q2010, q209, by decide, ⟨by decide, by decide⟩, by decide +kernel⟩
abbrev MX34_sum : MR := (({ cls := "TallySlate$Pack", name := "sum", desc := "(J)J" } : Jvm.MethodName), prog_20_method_9_code, 6, (Option.some Jvm.ClassFile.FieldType.long), [])
theorem oX34_sum : OKm MX34_sum 1 := ⟨q2158, q209, by decide, ⟨by decide, by decide⟩, by decide +kernel⟩
abbrev MX35_made : MR := (({ cls := "TallySlate$Whole", name := "made", desc := "()I" } : Jvm.MethodName), prog_34_method_5_code, 1, (Option.some Jvm.ClassFile.FieldType.int), [])
theorem oX35_made : OKm MX35_made 0 := ⟨q1433, q211, by decide, ⟨by decide, by decide⟩, by decide +kernel⟩
abbrev MX35_size : MR := (({ cls := "TallySlate$Whole", name := "size", desc := "()I" } : Jvm.MethodName), prog_34_method_3_code, 1, (Option.some Jvm.ClassFile.FieldType.int), [])
theorem oX35_size : OKm MX35_size 0 := ⟨q1461, q211, by decide, ⟨by decide, by decide⟩, by decide +kernel⟩
abbrev MX35_bulk : MR := (({ cls := "TallySlate$Whole", name := "bulk", desc := "()I" } : Jvm.MethodName), prog_34_method_4_code, 1, (Option.some Jvm.ClassFile.FieldType.int), [])
theorem oX35_bulk : OKm MX35_bulk 0 := ⟨q1587, q211, by decide, ⟨by decide, by decide⟩, by decide +kernel⟩
abbrev MX35_init : MR := (({ cls := "TallySlate$Whole", name := "<init>", desc := "(I)V" } : Jvm.MethodName), prog_34_method_1_code, 2, (Option.none : Option Jvm.ClassFile.FieldType), [])
theorem oX35_init : OKm MX35_init 1 := ⟨q1667, q211, by decide, ⟨by decide, by decide⟩, by decide +kernel⟩
abbrev MX35_kind : MR := (({ cls := "TallySlate$Whole", name := "kind", desc := "()I" } : Jvm.MethodName), prog_34_method_2_code, 1, (Option.some Jvm.ClassFile.FieldType.int), [])
theorem oX35_kind : OKm MX35_kind 0 := ⟨q1772, q211, by decide, ⟨by decide, by decide⟩, by decide +kernel⟩
abbrev MX35_same : MR := (({ cls := "TallySlate$Whole", name := "same", desc := "(LTallySlate$Thing;)Z" } : Jvm.MethodName), prog_34_method_6_code, 3, (Option.some Jvm.ClassFile.FieldType.boolean), [])
theorem oX35_same : OKm MX35_same 1 := ⟨q1922, q211, by decide, ⟨by decide, by decide⟩, by decide +kernel⟩
abbrev MX35_form : MR := (({ cls := "TallySlate$Whole", name := "form", desc := "(LTallySlate$Output;)V" } : Jvm.MethodName), prog_34_method_7_code, 2, (Option.none : Option Jvm.ClassFile.FieldType), [])
theorem oX35_form : OKm MX35_form 1 := ⟨q2025, q211, by decide, ⟨by decide, by decide⟩, by decide +kernel⟩
abbrev MX35_sum : MR := (({ cls := "TallySlate$Whole", name := "sum", desc := "(J)J" } : Jvm.MethodName), prog_34_method_8_code, 3, (Option.some Jvm.ClassFile.FieldType.long), [])
theorem oX35_sum : OKm MX35_sum 1 := ⟨q2174, q211, by decide, ⟨by decide, by decide⟩, by decide +kernel⟩
abbrev MX4_init : MR := (({ cls := "TallySlate$Shelves", name := "<init>", desc := "()V" } : Jvm.MethodName), prog_27_method_1_code, 1, (Option.none : Option Jvm.ClassFile.FieldType), [])
theorem oX4_init : OKm MX4_init 0 := ⟨q342, q170, by decide, ⟨by decide, by decide⟩, by decide +kernel⟩
abbrev MX4_keep : MR := (({ cls := "TallySlate$Shelves", name := "keep", desc := "(I)V" } : Jvm.MethodName), prog_27_method_3_code, 3, (Option.none : Option Jvm.ClassFile.FieldType), [])
theorem oX4_keep : OKm MX4_keep 1 := ⟨q1316, q170, by decide, ⟨by decide, by decide⟩, by decide +kernel⟩
abbrev MX4_put : MR := (({ cls := "TallySlate$Shelves", name := "put", desc := "(IILTallySlate$Thing;)V" } : Jvm.MethodName), prog_27_method_2_code, 4, (Option.none : Option Jvm.ClassFile.FieldType), [])
theorem oX4_put : OKm MX4_put 3 := ⟨q1941, q170, by decide, ⟨by decide, by decide⟩, by decide +kernel⟩
abbrev MX4_back : MR := (({ cls := "TallySlate$Shelves", name := "back", desc := "(I)V" } : Jvm.MethodName), prog_27_method_4_code, 3, (Option.none : Option Jvm.ClassFile.FieldType), [])
theorem oX4_back : OKm MX4_back 1 := ⟨q2056, q170, by decide, ⟨by decide, by decide⟩, by decide +kernel⟩
abbrev MX4_same : MR := (({ cls := "TallySlate$Shelves", name := "same", desc := "(II)Z" } : Jvm.MethodName), prog_27_method_6_code, 3, (Option.some Jvm.ClassFile.FieldType.boolean), [])
theorem oX4_same : OKm MX4_same 2 := ⟨q2129, q170, by decide, ⟨by decide, by decide⟩, by decide +kernel⟩
abbrev MX4_mark : MR := (({ cls := "TallySlate$Shelves", name := "mark", desc := "()I" } : Jvm.MethodName), prog_27_method_5_code, 2, (Option.some Jvm.ClassFile.FieldType.int), [])
theorem oX4_mark : OKm MX4_mark 0 := ⟨q2138, q170, by decide, ⟨by decide, by decide⟩, by decide +kernel⟩
abbrev MX5_init : MR := (({ cls := "TallySlate$Signs", name := "<init>", desc := "(LTallySlate$Machine;)V" } : Jvm.MethodName), prog_28_method_1_code, 2, (Option.none : Option Jvm.ClassFile.FieldType), [])
theorem oX5_init : OKm MX5_init 1 := ⟨q380, q171, by decide, ⟨by decide, by decide⟩, by decide +kernel⟩
abbrev MX5_one : MR := (({ cls := "TallySlate$Signs", name := "one", desc := "(ZI)V" } : Jvm.MethodName), prog_28_method_8_code, 7, (Option.none : Option Jvm.ClassFile.FieldType), [])
theorem oX5_one : OKm MX5_one 2 := ⟨q1380, q171, by decide, ⟨by decide, by decide⟩, by decide +kernel⟩
abbrev MX5_rows : MR := (({ cls := "TallySlate$Signs", name := "rows", desc := "(I[II[II)[I" } : Jvm.MethodName), prog_28_method_3_code, 8, (Option.some (Jvm.ClassFile.FieldType.array Jvm.ClassFile.FieldType.int)), [])
theorem oX5_rows : OKm MX5_rows 5 := ⟨q1391, q171, by decide, ⟨by decide, by decide⟩, by decide +kernel⟩
abbrev MX5_of : MR := (({ cls := "TallySlate$Signs", name := "of", desc := "(III)I" } : Jvm.MethodName), prog_28_method_2_code, 3, (Option.some Jvm.ClassFile.FieldType.int), [])
theorem oX5_of : OKm MX5_of 3 := ⟨q1394, q171, by decide, ⟨by decide, by decide⟩, by decide +kernel⟩
abbrev MX5_tables : MR := (({ cls := "TallySlate$Signs", name := "tables", desc := "(ILTallySlate$Thing;ILTallySlate$Thing;I)LTallySlate$Table;" } : Jvm.MethodName), prog_28_method_7_code, 8, (Option.some (Jvm.ClassFile.FieldType.object "TallySlate$Table")), [])
theorem oX5_tables : OKm MX5_tables 5 := ⟨q1445, q171, by decide, ⟨by decide, by decide⟩, by decide +kernel⟩
abbrev MX5_rowOf : MR := (({ cls := "TallySlate$Signs", name := "rowOf", desc := "(LTallySlate$Thing;I)[I" } : Jvm.MethodName), prog_28_method_4_code, 4, (Option.some (Jvm.ClassFile.FieldType.array Jvm.ClassFile.FieldType.int)), [])
theorem oX5_rowOf : OKm MX5_rowOf 2 := ⟨q1466, q171, by decide, ⟨by decide, by decide⟩, by decide +kernel⟩
abbrev MX5_two : MR := (({ cls := "TallySlate$Signs", name := "two", desc := "(II)V" } : Jvm.MethodName), prog_28_method_5_code, 8, (Option.none : Option Jvm.ClassFile.FieldType), [((119 : Nat), (220 : Nat), (223 : Nat), (75 : Nat))])
theorem oX5_two : OKm MX5_two 2 := ⟨q1625, q171, by decide, ⟨by decide, by decide⟩, by decide +kernel⟩
abbrev MX5_areAlike : MR := (({ cls := "TallySlate$Signs", name := "areAlike", desc := "(LTallySlate$Thing;LTallySlate$Thing;)Z" } : Jvm.MethodName), prog_28_method_6_code, 5, (Option.some Jvm.ClassFile.FieldType.boolean), [])
theorem oX5_areAlike : OKm MX5_areAlike 2 := ⟨q1642, q171, by decide, ⟨by decide, by decide⟩, by decide +kernel⟩
abbrev MX6_init : MR := (({ cls := "TallySlate$Maker", name := "<init>", desc := "(LTallySlate$Machine;)V" } : Jvm.MethodName), prog_14_method_1_code, 2, (Option.none : Option Jvm.ClassFile.FieldType), [])
theorem oX6_init : OKm MX6_init 1 := ⟨q390, q172, by decide, ⟨by decide, by decide⟩, by decide +kernel⟩
abbrev MX6_some : MR := (({ cls := "TallySlate$Maker", name := "some", desc := "(LTallySlate$Thing;[II)LTallySlate$Thing;" } : Jvm.MethodName), prog_14_method_12_code, 8, (Option.some (Jvm.ClassFile.FieldType.object "TallySlate$Thing")), [])
theorem oX6_some : OKm MX6_some 3 := ⟨q1539, q172, by decide, ⟨by decide, by decide⟩, by decide +kernel⟩
abbrev MX6_table : MR := (({ cls := "TallySlate$Maker", name := "table", desc := "([[II)LTallySlate$Table;" } : Jvm.MethodName), prog_14_method_10_code, 4, (Option.some (Jvm.ClassFile.FieldType.object "TallySlate$Table")), [])
theorem oX6_table : OKm MX6_table 2 := ⟨q1547, q172, by decide, ⟨by decide, by decide⟩, by decide +kernel⟩
abbrev MX6_pack : MR := (({ cls := "TallySlate$Maker", name := "pack", desc := "([LTallySlate$Thing;I)LTallySlate$Pack;" } : Jvm.MethodName), prog_14_method_11_code, 4, (Option.some (Jvm.ClassFile.FieldType.object "TallySlate$Pack")), [])
theorem oX6_pack : OKm MX6_pack 2 := ⟨q1556, q172, by decide, ⟨by decide, by decide⟩, by decide +kernel⟩
abbrev MX6_rowOf : MR := (({ cls := "TallySlate$Maker", name := "rowOf", desc := "(III)LTallySlate$Row;" } : Jvm.MethodName), prog_14_method_7_code, 6, (Option.some (Jvm.ClassFile.FieldType.object "TallySlate$Row")), [])
theorem oX6_rowOf : OKm MX6_rowOf 3 := ⟨q1616, q172, by decide, ⟨by decide, by decide⟩, by decide +kernel⟩
abbrev MX6_tableOf : MR := (({ cls := "TallySlate$Maker", name := "tableOf", desc := "(III)LTallySlate$Table;" } : Jvm.MethodName), prog_14_method_8_code, 6, (Option.some (Jvm.ClassFile.FieldType.object "TallySlate$Table")), [])
theorem oX6_tableOf : OKm MX6_tableOf 3 := ⟨q1620, q172, by decide, ⟨by decide, by decide⟩, by decide +kernel⟩
abbrev MX6_packOf : MR := (({ cls := "TallySlate$Maker", name := "packOf", desc := "(III)LTallySlate$Pack;" } : Jvm.MethodName), prog_14_method_9_code, 6, (Option.some (Jvm.ClassFile.FieldType.object "TallySlate$Pack")), [])
theorem oX6_packOf : OKm MX6_packOf 3 := ⟨q1659, q172, by decide, ⟨by decide, by decide⟩, by decide +kernel⟩
abbrev MX6_work : MR := (({ cls := "TallySlate$Maker", name := "work", desc := "(III)V" } : Jvm.MethodName), prog_14_method_2_code, 6, (Option.none : Option Jvm.ClassFile.FieldType), [])
theorem oX6_work : OKm MX6_work 3 := ⟨q1695, q172, by decide, ⟨by decide, by decide⟩, by decide +kernel⟩
abbrev MX6_ints : MR := (({ cls := "TallySlate$Maker", name := "ints", desc := "(II)[I" } : Jvm.MethodName), prog_14_method_3_code, 4, (Option.some (Jvm.ClassFile.FieldType.array Jvm.ClassFile.FieldType.int)), [((16 : Nat), (19 : Nat), (20 : Nat), (76 : Nat))])
theorem oX6_ints : OKm MX6_ints 2 := ⟨q1703, q172, by decide, ⟨by decide, by decide⟩, by decide +kernel⟩
abbrev MX6_things : MR := (({ cls := "TallySlate$Maker", name := "things", desc := "(II)[LTallySlate$Thing;" } : Jvm.MethodName), prog_14_method_4_code, 5, (Option.some (Jvm.ClassFile.FieldType.array (Jvm.ClassFile.FieldType.object "TallySlate$Thing"))), [((16 : Nat), (21 : Nat), (24 : Nat), (76 : Nat))])
theorem oX6_things : OKm MX6_things 2 := ⟨q1722, q172, by decide, ⟨by decide, by decide⟩, by decide +kernel⟩
abbrev MX6_grid : MR := (({ cls := "TallySlate$Maker", name := "grid", desc := "(III)[[I" } : Jvm.MethodName), prog_14_method_5_code, 5, (Option.some (Jvm.ClassFile.FieldType.array (Jvm.ClassFile.FieldType.array Jvm.ClassFile.FieldType.int))), [((39 : Nat), (45 : Nat), (46 : Nat), (76 : Nat))])
theorem oX6_grid : OKm MX6_grid 3 := ⟨q1728, q172, by decide, ⟨by decide, by decide⟩, by decide +kernel⟩
abbrev MX6_rows : MR := (({ cls := "TallySlate$Maker", name := "rows", desc := "([II)[[I" } : Jvm.MethodName), prog_14_method_6_code, 8, (Option.some (Jvm.ClassFile.FieldType.array (Jvm.ClassFile.FieldType.array Jvm.ClassFile.FieldType.int))), [((95 : Nat), (122 : Nat), (125 : Nat), (76 : Nat))])
theorem oX6_rows : OKm MX6_rows 2 := ⟨q1737, q172, by decide, ⟨by decide, by decide⟩, by decide +kernel⟩
abbrev MX6_changed : MR := (({ cls := "TallySlate$Maker", name := "changed", desc := "(LTallySlate$Thing;IIILTallySlate$Assign;)LTallySlate$Thing;" } : Jvm.MethodName), prog_14_method_13_code, 9, (Option.some (Jvm.ClassFile.FieldType.object "TallySlate$Thing")), [])
theorem oX6_changed : OKm MX6_changed 5 := ⟨q1950, q172, by decide, ⟨by decide, by decide⟩, by decide +kernel⟩
abbrev MX6_part : MR := (({ cls := "TallySlate$Maker", name := "part", desc := "([IIII)[I" } : Jvm.MethodName), prog_14_method_14_code, 7, (Option.some (Jvm.ClassFile.FieldType.array Jvm.ClassFile.FieldType.int)), [((9 : Nat), (14 : Nat), (17 : Nat), (150 : Nat))])
theorem oX6_part : OKm MX6_part 4 := ⟨q1955, q172, by decide, ⟨by decide, by decide⟩, by decide +kernel⟩
abbrev MX7_init : MR := (({ cls := "TallySlate$Works", name := "<init>", desc := "(LTallySlate$Machine;)V" } : Jvm.MethodName), prog_35_method_1_code, 2, (Option.none : Option Jvm.ClassFile.FieldType), [])
theorem oX7_init : OKm MX7_init 1 := ⟨q400, q173, by decide, ⟨by decide, by decide⟩, by decide +kernel⟩
abbrev MX7_work : MR := (({ cls := "TallySlate$Works", name := "work", desc := "(II)V" } : Jvm.MethodName), prog_35_method_2_code, 5, (Option.none : Option Jvm.ClassFile.FieldType), [])
theorem oX7_work : OKm MX7_work 2 := ⟨q1744, q173, by decide, ⟨by decide, by decide⟩, by decide +kernel⟩
abbrev MX7_widths : MR := (({ cls := "TallySlate$Works", name := "widths", desc := "(LTallySlate$Table;)LTallySlate$Row;" } : Jvm.MethodName), prog_35_method_4_code, 3, (Option.some (Jvm.ClassFile.FieldType.object "TallySlate$Row")), [])
theorem oX7_widths : OKm MX7_widths 1 := ⟨q1754, q173, by decide, ⟨by decide, by decide⟩, by decide +kernel⟩
abbrev MX7_folds : MR := (({ cls := "TallySlate$Works", name := "folds", desc := "(ILTallySlate$Thing;I)V" } : Jvm.MethodName), prog_35_method_6_code, 8, (Option.none : Option Jvm.ClassFile.FieldType), [])
theorem oX7_folds : OKm MX7_folds 3 := ⟨q1776, q173, by decide, ⟨by decide, by decide⟩, by decide +kernel⟩
abbrev MX7_folded : MR := (({ cls := "TallySlate$Works", name := "folded", desc := "(I[II)I" } : Jvm.MethodName), prog_35_method_5_code, 6, (Option.some Jvm.ClassFile.FieldType.int), [((37 : Nat), (42 : Nat), (45 : Nat), (145 : Nat))])
theorem oX7_folded : OKm MX7_folded 3 := ⟨q1780, q173, by decide, ⟨by decide, by decide⟩, by decide +kernel⟩
abbrev MX7_turns : MR := (({ cls := "TallySlate$Works", name := "turns", desc := "(ILTallySlate$Thing;I)V" } : Jvm.MethodName), prog_35_method_9_code, 7, (Option.none : Option Jvm.ClassFile.FieldType), [])
theorem oX7_turns : OKm MX7_turns 3 := ⟨q1788, q173, by decide, ⟨by decide, by decide⟩, by decide +kernel⟩
abbrev MX7_scanned : MR := (({ cls := "TallySlate$Works", name := "scanned", desc := "([I)[I" } : Jvm.MethodName), prog_35_method_7_code, 3, (Option.some (Jvm.ClassFile.FieldType.array Jvm.ClassFile.FieldType.int)), [])
theorem oX7_scanned : OKm MX7_scanned 1 := ⟨q1791, q173, by decide, ⟨by decide, by decide⟩, by decide +kernel⟩
abbrev MX7_sorted : MR := (({ cls := "TallySlate$Works", name := "sorted", desc := "([I)[I" } : Jvm.MethodName), prog_35_method_8_code, 5, (Option.some (Jvm.ClassFile.FieldType.array Jvm.ClassFile.FieldType.int)), [])
theorem oX7_sorted : OKm MX7_sorted 1 := ⟨q1801, q173, by decide, ⟨by decide, by decide⟩, by decide +kernel⟩
abbrev MX7_grade : MR := (({ cls := "TallySlate$Works", name := "grade", desc := "([I)[I" } : Jvm.MethodName), prog_35_method_10_code, 4, (Option.some (Jvm.ClassFile.FieldType.array Jvm.ClassFile.FieldType.int)), [])
theorem oX7_grade : OKm MX7_grade 1 := ⟨q1806, q173, by decide, ⟨by decide, by decide⟩, by decide +kernel⟩
abbrev MX7_back : MR := (({ cls := "TallySlate$Works", name := "back", desc := "(LTallySlate$Thing;I)LTallySlate$Thing;" } : Jvm.MethodName), prog_35_method_11_code, 7, (Option.some (Jvm.ClassFile.FieldType.object "TallySlate$Thing")), [])
theorem oX7_back : OKm MX7_back 2 := ⟨q1810, q173, by decide, ⟨by decide, by decide⟩, by decide +kernel⟩
abbrev MX7_flat : MR := (({ cls := "TallySlate$Works", name := "flat", desc := "(LTallySlate$Thing;I)[I" } : Jvm.MethodName), prog_35_method_12_code, 11, (Option.some (Jvm.ClassFile.FieldType.array Jvm.ClassFile.FieldType.int)), [])
theorem oX7_flat : OKm MX7_flat 2 := ⟨q1817, q173, by decide, ⟨by decide, by decide⟩, by decide +kernel⟩
abbrev MX7_intsOf : MR := (({ cls := "TallySlate$Works", name := "intsOf", desc := "(LTallySlate$Thing;)I" } : Jvm.MethodName), prog_35_method_13_code, 2, (Option.some Jvm.ClassFile.FieldType.int), [])
theorem oX7_intsOf : OKm MX7_intsOf 1 := ⟨q1824, q173, by decide, ⟨by decide, by decide⟩, by decide +kernel⟩
abbrev MX7_copyInts : MR := (({ cls := "TallySlate$Works", name := "copyInts", desc := "(LTallySlate$Thing;I[II)V" } : Jvm.MethodName), prog_35_method_14_code, 5, (Option.none : Option Jvm.ClassFile.FieldType), [])
theorem oX7_copyInts : OKm MX7_copyInts 4 := ⟨q1827, q173, by decide, ⟨by decide, by decide⟩, by decide +kernel⟩
abbrev MX7_turned : MR := (({ cls := "TallySlate$Works", name := "turned", desc := "(LTallySlate$Table;I)[[I" } : Jvm.MethodName), prog_35_method_15_code, 8, (Option.some (Jvm.ClassFile.FieldType.array (Jvm.ClassFile.FieldType.array Jvm.ClassFile.FieldType.int))), [])
theorem oX7_turned : OKm MX7_turned 2 := ⟨q1831, q173, by decide, ⟨by decide, by decide⟩, by decide +kernel⟩
abbrev MX7_group : MR := (({ cls := "TallySlate$Works", name := "group", desc := "([II)[[I" } : Jvm.MethodName), prog_35_method_16_code, 8, (Option.some (Jvm.ClassFile.FieldType.array (Jvm.ClassFile.FieldType.array Jvm.ClassFile.FieldType.int))), [])
theorem oX7_group : OKm MX7_group 2 := ⟨q1840, q173, by decide, ⟨by decide, by decide⟩, by decide +kernel⟩
abbrev MX7_ofTwo : MR := (({ cls := "TallySlate$Works", name := "ofTwo", desc := "(II)V" } : Jvm.MethodName), prog_35_method_3_code, 6, (Option.none : Option Jvm.ClassFile.FieldType), [])
theorem oX7_ofTwo : OKm MX7_ofTwo 2 := ⟨q1844, q173, by decide, ⟨by decide, by decide⟩, by decide +kernel⟩
abbrev MX7_join : MR := (({ cls := "TallySlate$Works", name := "join", desc := "(ILTallySlate$Thing;LTallySlate$Thing;I)LTallySlate$Thing;" } : Jvm.MethodName), prog_35_method_17_code, 8, (Option.some (Jvm.ClassFile.FieldType.object "TallySlate$Thing")), [])
theorem oX7_join : OKm MX7_join 4 := ⟨q1848, q173, by decide, ⟨by decide, by decide⟩, by decide +kernel⟩
abbrev MX7_joinPacks : MR := (({ cls := "TallySlate$Works", name := "joinPacks", desc := "(ILTallySlate$Thing;LTallySlate$Thing;I)LTallySlate$Thing;" } : Jvm.MethodName), prog_35_method_18_code, 10, (Option.some (Jvm.ClassFile.FieldType.object "TallySlate$Thing")), [])
theorem oX7_joinPacks : OKm MX7_joinPacks 4 := ⟨q1852, q173, by decide, ⟨by decide, by decide⟩, by decide +kernel⟩
abbrev MX7_take : MR := (({ cls := "TallySlate$Works", name := "take", desc := "(ILTallySlate$Thing;I)LTallySlate$Thing;" } : Jvm.MethodName), prog_35_method_20_code, 6, (Option.some (Jvm.ClassFile.FieldType.object "TallySlate$Thing")), [])
theorem oX7_take : OKm MX7_take 3 := ⟨q1861, q173, by decide, ⟨by decide, by decide⟩, by decide +kernel⟩
abbrev MX7_stretch : MR := (({ cls := "TallySlate$Works", name := "stretch", desc := "(LTallySlate$Thing;III)LTallySlate$Thing;" } : Jvm.MethodName), prog_35_method_19_code, 9, (Option.some (Jvm.ClassFile.FieldType.object "TallySlate$Thing")), [])
theorem oX7_stretch : OKm MX7_stretch 4 := ⟨q1865, q173, by decide, ⟨by decide, by decide⟩, by decide +kernel⟩
abbrev MX7_drop : MR := (({ cls := "TallySlate$Works", name := "drop", desc := "(ILTallySlate$Thing;I)LTallySlate$Thing;" } : Jvm.MethodName), prog_35_method_21_code, 6, (Option.some (Jvm.ClassFile.FieldType.object "TallySlate$Thing")), [])
theorem oX7_drop : OKm MX7_drop 3 := ⟨q1871, q173, by decide, ⟨by decide, by decide⟩, by decide +kernel⟩
abbrev MX7_cut : MR := (({ cls := "TallySlate$Works", name := "cut", desc := "([I[II)[[I" } : Jvm.MethodName), prog_35_method_22_code, 10, (Option.some (Jvm.ClassFile.FieldType.array (Jvm.ClassFile.FieldType.array Jvm.ClassFile.FieldType.int))), [])
theorem oX7_cut : OKm MX7_cut 3 := ⟨q1878, q173, by decide, ⟨by decide, by decide⟩, by decide +kernel⟩
abbrev MX7_pick : MR := (({ cls := "TallySlate$Works", name := "pick", desc := "(LTallySlate$Thing;II)LTallySlate$Thing;" } : Jvm.MethodName), prog_35_method_23_code, 8, (Option.some (Jvm.ClassFile.FieldType.object "TallySlate$Thing")), [])
theorem oX7_pick : OKm MX7_pick 3 := ⟨q1882, q173, by decide, ⟨by decide, by decide⟩, by decide +kernel⟩
abbrev MX7_find : MR := (({ cls := "TallySlate$Works", name := "find", desc := "([ILTallySlate$Thing;I)V" } : Jvm.MethodName), prog_35_method_25_code, 8, (Option.none : Option Jvm.ClassFile.FieldType), [])
theorem oX7_find : OKm MX7_find 3 := ⟨q1887, q173, by decide, ⟨by decide, by decide⟩, by decide +kernel⟩
abbrev MX7_placeOf : MR := (({ cls := "TallySlate$Works", name := "placeOf", desc := "([II)I" } : Jvm.MethodName), prog_35_method_24_code, 3, (Option.some Jvm.ClassFile.FieldType.int), [])
theorem oX7_placeOf : OKm MX7_placeOf 2 := ⟨q1890, q173, by decide, ⟨by decide, by decide⟩, by decide +kernel⟩
abbrev MX7_pad : MR := (({ cls := "TallySlate$Works", name := "pad", desc := "([[III)[[I" } : Jvm.MethodName), prog_35_method_26_code, 6, (Option.some (Jvm.ClassFile.FieldType.array (Jvm.ClassFile.FieldType.array Jvm.ClassFile.FieldType.int))), [])
theorem oX7_pad : OKm MX7_pad 3 := ⟨q1894, q173, by decide, ⟨by decide, by decide⟩, by decide +kernel⟩
abbrev MX7_outer : MR := (({ cls := "TallySlate$Works", name := "outer", desc := "([I[II)[[I" } : Jvm.MethodName), prog_35_method_27_code, 7, (Option.some (Jvm.ClassFile.FieldType.array (Jvm.ClassFile.FieldType.array Jvm.ClassFile.FieldType.int))), [])
theorem oX7_outer : OKm MX7_outer 3 := ⟨q1899, q173, by decide, ⟨by decide, by decide⟩, by decide +kernel⟩
abbrev MX8_init : MR := (({ cls := "TallySlate$Output", name := "<init>", desc := "()V" } : Jvm.MethodName), prog_19_method_1_code, 1, (Option.none : Option Jvm.ClassFile.FieldType), [])
theorem oX8_init : OKm MX8_init 0 := ⟨q410, q174, by decide, ⟨by decide, by decide⟩, by decide +kernel⟩
abbrev MX8_number : MR := (({ cls := "TallySlate$Output", name := "number", desc := "(I)V" } : Jvm.MethodName), prog_19_method_3_code, 6, (Option.none : Option Jvm.ClassFile.FieldType), [])
theorem oX8_number : OKm MX8_number 1 := ⟨q1997, q174, by decide, ⟨by decide, by decide⟩, by decide +kernel⟩
abbrev MX8_sign : MR := (({ cls := "TallySlate$Output", name := "sign", desc := "(I)V" } : Jvm.MethodName), prog_19_method_2_code, 2, (Option.none : Option Jvm.ClassFile.FieldType), [])
theorem oX8_sign : OKm MX8_sign 1 := ⟨q2001, q174, by decide, ⟨by decide, by decide⟩, by decide +kernel⟩
abbrev MX9_init : MR := (({ cls := "TallySlate$Trouble", name := "<init>", desc := "()V" } : Jvm.MethodName), prog_31_method_1_code, 1, (Option.none : Option Jvm.ClassFile.FieldType), [])
theorem oX9_init : OKm MX9_init 0 := ⟨q433, q175, by decide, ⟨by decide, by decide⟩, by decide +kernel⟩
theorem f_java_lang_Throwable_198 : LKf "java/lang/Throwable" 198 12 := Or.inl ⟨_, q278, Or.inl rfl⟩
theorem f_java_lang_Throwable_31 : LKf "java/lang/Throwable" 31 11 := Or.inl ⟨_, q279, Or.inl rfl⟩
theorem f_java_lang_Throwable_7 : LKf "java/lang/Throwable" 7 8 := Or.inl ⟨_, q280, Or.inl rfl⟩
theorem f_java_lang_Throwable_17 : LKf "java/lang/Throwable" 17 9 := Or.inl ⟨_, q281, Or.inl rfl⟩
theorem f_java_lang_Throwable_24 : LKf "java/lang/Throwable" 24 10 := Or.inl ⟨_, q282, Or.inl rfl⟩
theorem f_java_lang_String_15 : LKf "java/lang/String" 15 211 := Or.inl ⟨_, q3052, Or.inl rfl⟩
theorem f_java_lang_String_9 : LKf "java/lang/String" 9 210 := Or.inl ⟨_, q3053, Or.inl rfl⟩
theorem f_TallySlate_17 : LKf "TallySlate" 17 0 := Or.inl ⟨_, q526, Or.inl rfl⟩
theorem f_TallySlate_44 : LKf "TallySlate" 44 1 := Or.inl ⟨_, q527, Or.inl rfl⟩
theorem f_TallySlate_24 : LKf "TallySlate" 24 2 := Or.inl ⟨_, q528, Or.inl rfl⟩
theorem f_TallySlate_52 : LKf "TallySlate" 52 3 := Or.inl ⟨_, q529, Or.inl rfl⟩
theorem f_TallySlate_33 : LKf "TallySlate" 33 4 := Or.inl ⟨_, q530, Or.inl rfl⟩
theorem f_TallySlate_40 : LKf "TallySlate" 40 5 := Or.inl ⟨_, q531, Or.inl rfl⟩
theorem f_TallySlate_78 : LKf "TallySlate" 78 6 := Or.inl ⟨_, q532, Or.inl rfl⟩
theorem f_TallySlate_117 : LKf "TallySlate" 117 7 := Or.inl ⟨_, q533, Or.inl rfl⟩
theorem f_TallySlateModel_89 : LKf "TallySlateModel" 89 57 := Or.inl ⟨_, q2227, Or.inl rfl⟩
theorem f_TallySlateModel_95 : LKf "TallySlateModel" 95 58 := Or.inl ⟨_, q2228, Or.inl rfl⟩
theorem f_TallySlateModel_99 : LKf "TallySlateModel" 99 59 := Or.inl ⟨_, q2229, Or.inl rfl⟩
theorem f_TallySlateModel_252 : LKf "TallySlateModel" 252 60 := Or.inl ⟨_, q2230, Or.inl rfl⟩
theorem f_TallySlateModel_259 : LKf "TallySlateModel" 259 61 := Or.inl ⟨_, q2231, Or.inl rfl⟩
theorem f_TallySlateModel_276 : LKf "TallySlateModel" 276 62 := Or.inl ⟨_, q2232, Or.inl rfl⟩
theorem f_TallySlateModel_269 : LKf "TallySlateModel" 269 63 := Or.inl ⟨_, q2233, Or.inl rfl⟩
theorem f_TallySlateModel_272 : LKf "TallySlateModel" 272 64 := Or.inl ⟨_, q2234, Or.inl rfl⟩
theorem f_TallySlateModel_299 : LKf "TallySlateModel" 299 65 := Or.inl ⟨_, q2235, Or.inl rfl⟩
theorem f_TallySlateModel_311 : LKf "TallySlateModel" 311 66 := Or.inl ⟨_, q2236, Or.inl rfl⟩
theorem f_TallySlateModel_314 : LKf "TallySlateModel" 314 67 := Or.inl ⟨_, q2237, Or.inl rfl⟩
theorem f_TallySlateModel_328 : LKf "TallySlateModel" 328 68 := Or.inl ⟨_, q2238, Or.inl rfl⟩
theorem f_TallySlateModel_340 : LKf "TallySlateModel" 340 69 := Or.inl ⟨_, q2239, Or.inl rfl⟩
theorem f_TallySlateModel_457 : LKf "TallySlateModel" 457 70 := Or.inl ⟨_, q2240, Or.inl rfl⟩
theorem f_TallySlateModel_454 : LKf "TallySlateModel" 454 71 := Or.inl ⟨_, q2241, Or.inl rfl⟩
theorem f_TallySlateModel_380 : LKf "TallySlateModel" 380 72 := Or.inl ⟨_, q2242, Or.inl rfl⟩
theorem f_TallySlateModel_103 : LKf "TallySlateModel" 103 73 := Or.inl ⟨_, q2243, Or.inl rfl⟩
theorem f_TallySlateModel_106 : LKf "TallySlateModel" 106 74 := Or.inl ⟨_, q2244, Or.inl rfl⟩
theorem f_TallySlateModel_109 : LKf "TallySlateModel" 109 75 := Or.inl ⟨_, q2245, Or.inl rfl⟩
theorem f_TallySlateModel_112 : LKf "TallySlateModel" 112 76 := Or.inl ⟨_, q2246, Or.inl rfl⟩
theorem f_TallySlateModel_115 : LKf "TallySlateModel" 115 77 := Or.inl ⟨_, q2247, Or.inl rfl⟩
theorem f_TallySlateModel_118 : LKf "TallySlateModel" 118 78 := Or.inl ⟨_, q2248, Or.inl rfl⟩
theorem f_TallySlateModel_359 : LKf "TallySlateModel" 359 79 := Or.inl ⟨_, q2249, Or.inl rfl⟩
theorem f_TallySlateModel_121 : LKf "TallySlateModel" 121 80 := Or.inl ⟨_, q2250, Or.inl rfl⟩
theorem f_TallySlateModel_124 : LKf "TallySlateModel" 124 81 := Or.inl ⟨_, q2251, Or.inl rfl⟩
theorem f_TallySlateModel_127 : LKf "TallySlateModel" 127 82 := Or.inl ⟨_, q2252, Or.inl rfl⟩
theorem f_TallySlateModel_130 : LKf "TallySlateModel" 130 83 := Or.inl ⟨_, q2253, Or.inl rfl⟩
theorem f_TallySlateModel_133 : LKf "TallySlateModel" 133 84 := Or.inl ⟨_, q2254, Or.inl rfl⟩
theorem f_TallySlateModel_343 : LKf "TallySlateModel" 343 85 := Or.inl ⟨_, q2255, Or.inl rfl⟩
theorem f_TallySlateModel_346 : LKf "TallySlateModel" 346 86 := Or.inl ⟨_, q2256, Or.inl rfl⟩
theorem f_TallySlateModel_136 : LKf "TallySlateModel" 136 87 := Or.inl ⟨_, q2257, Or.inl rfl⟩
theorem f_TallySlateModel_139 : LKf "TallySlateModel" 139 88 := Or.inl ⟨_, q2258, Or.inl rfl⟩
theorem f_TallySlateModel_142 : LKf "TallySlateModel" 142 89 := Or.inl ⟨_, q2259, Or.inl rfl⟩
theorem f_TallySlateModel_145 : LKf "TallySlateModel" 145 90 := Or.inl ⟨_, q2260, Or.inl rfl⟩
theorem f_TallySlateModel_148 : LKf "TallySlateModel" 148 91 := Or.inl ⟨_, q2261, Or.inl rfl⟩
theorem f_TallySlateModel_151 : LKf "TallySlateModel" 151 92 := Or.inl ⟨_, q2262, Or.inl rfl⟩
theorem f_TallySlateModel_154 : LKf "TallySlateModel" 154 93 := Or.inl ⟨_, q2263, Or.inl rfl⟩
theorem f_TallySlateModel_362 : LKf "TallySlateModel" 362 94 := Or.inl ⟨_, q2264, Or.inl rfl⟩
theorem f_TallySlateModel_157 : LKf "TallySlateModel" 157 95 := Or.inl ⟨_, q2265, Or.inl rfl⟩
theorem f_TallySlateModel_160 : LKf "TallySlateModel" 160 96 := Or.inl ⟨_, q2266, Or.inl rfl⟩
theorem f_TallySlateModel_163 : LKf "TallySlateModel" 163 97 := Or.inl ⟨_, q2267, Or.inl rfl⟩
theorem f_TallySlateModel_166 : LKf "TallySlateModel" 166 98 := Or.inl ⟨_, q2268, Or.inl rfl⟩
theorem f_TallySlateModel_169 : LKf "TallySlateModel" 169 99 := Or.inl ⟨_, q2269, Or.inl rfl⟩
theorem f_TallySlateModel_172 : LKf "TallySlateModel" 172 100 := Or.inl ⟨_, q2270, Or.inl rfl⟩
theorem f_TallySlateModel_413 : LKf "TallySlateModel" 413 101 := Or.inl ⟨_, q2271, Or.inl rfl⟩
theorem f_TallySlateModel_175 : LKf "TallySlateModel" 175 102 := Or.inl ⟨_, q2272, Or.inl rfl⟩
theorem f_TallySlateModel_179 : LKf "TallySlateModel" 179 103 := Or.inl ⟨_, q2273, Or.inl rfl⟩
theorem f_TallySlateModel_183 : LKf "TallySlateModel" 183 104 := Or.inl ⟨_, q2274, Or.inl rfl⟩
theorem f_TallySlateModel_519 : LKf "TallySlateModel" 519 105 := Or.inl ⟨_, q2275, Or.inl rfl⟩
theorem f_TallySlateModel_186 : LKf "TallySlateModel" 186 106 := Or.inl ⟨_, q2276, Or.inl rfl⟩
theorem f_TallySlateModel_189 : LKf "TallySlateModel" 189 107 := Or.inl ⟨_, q2277, Or.inl rfl⟩
theorem f_TallySlateModel_461 : LKf "TallySlateModel" 461 108 := Or.inl ⟨_, q2278, Or.inl rfl⟩
theorem f_TallySlateModel_192 : LKf "TallySlateModel" 192 109 := Or.inl ⟨_, q2279, Or.inl rfl⟩
theorem f_TallySlateModel_195 : LKf "TallySlateModel" 195 110 := Or.inl ⟨_, q2280, Or.inl rfl⟩
theorem f_TallySlateModel_198 : LKf "TallySlateModel" 198 111 := Or.inl ⟨_, q2281, Or.inl rfl⟩
theorem f_TallySlateModel_474 : LKf "TallySlateModel" 474 112 := Or.inl ⟨_, q2282, Or.inl rfl⟩
theorem f_TallySlateModel_480 : LKf "TallySlateModel" 480 113 := Or.inl ⟨_, q2283, Or.inl rfl⟩
theorem f_TallySlateModel_486 : LKf "TallySlateModel" 486 114 := Or.inl ⟨_, q2284, Or.inl rfl⟩
theorem f_TallySlateModel_201 : LKf "TallySlateModel" 201 115 := Or.inl ⟨_, q2285, Or.inl rfl⟩
theorem f_TallySlateModel_204 : LKf "TallySlateModel" 204 116 := Or.inl ⟨_, q2286, Or.inl rfl⟩
theorem f_TallySlateModel_501 : LKf "TallySlateModel" 501 117 := Or.inl ⟨_, q2287, Or.inl rfl⟩
theorem f_TallySlateModel_504 : LKf "TallySlateModel" 504 118 := Or.inl ⟨_, q2288, Or.inl rfl⟩
theorem f_TallySlateModel_513 : LKf "TallySlateModel" 513 119 := Or.inl ⟨_, q2289, Or.inl rfl⟩
theorem f_TallySlateModel_537 : LKf "TallySlateModel" 537 120 := Or.inl ⟨_, q2290, Or.inl rfl⟩
theorem f_TallySlateModel_546 : LKf "TallySlateModel" 546 121 := Or.inl ⟨_, q2291, Or.inl rfl⟩
theorem f_TallySlateModel_543 : LKf "TallySlateModel" 543 122 := Or.inl ⟨_, q2292, Or.inl rfl⟩
theorem f_TallySlateModel_498 : LKf "TallySlateModel" 498 123 := Or.inl ⟨_, q2293, Or.inl rfl⟩
theorem f_TallySlateModel_207 : LKf "TallySlateModel" 207 124 := Or.inl ⟨_, q2294, Or.inl rfl⟩
theorem f_TallySlateModel_552 : LKf "TallySlateModel" 552 125 := Or.inl ⟨_, q2295, Or.inl rfl⟩
theorem f_TallySlateModel_540 : LKf "TallySlateModel" 540 126 := Or.inl ⟨_, q2296, Or.inl rfl⟩
theorem f_TallySlateModel_507 : LKf "TallySlateModel" 507 127 := Or.inl ⟨_, q2297, Or.inl rfl⟩
theorem f_TallySlateModel_210 : LKf "TallySlateModel" 210 128 := Or.inl ⟨_, q2298, Or.inl rfl⟩
theorem f_TallySlateModel_213 : LKf "TallySlateModel" 213 129 := Or.inl ⟨_, q2299, Or.inl rfl⟩
theorem f_TallySlateModel_531 : LKf "TallySlateModel" 531 130 := Or.inl ⟨_, q2300, Or.inl rfl⟩
theorem f_TallySlateModel_216 : LKf "TallySlateModel" 216 131 := Or.inl ⟨_, q2301, Or.inl rfl⟩
theorem f_TallySlateModel_219 : LKf "TallySlateModel" 219 132 := Or.inl ⟨_, q2302, Or.inl rfl⟩
theorem f_TallySlateModel_222 : LKf "TallySlateModel" 222 133 := Or.inl ⟨_, q2303, Or.inl rfl⟩
theorem f_TallySlateModel_225 : LKf "TallySlateModel" 225 134 := Or.inl ⟨_, q2304, Or.inl rfl⟩
theorem f_TallySlateModel_228 : LKf "TallySlateModel" 228 135 := Or.inl ⟨_, q2305, Or.inl rfl⟩
theorem f_TallySlateModel_534 : LKf "TallySlateModel" 534 136 := Or.inl ⟨_, q2306, Or.inl rfl⟩
theorem f_TallySlateModel_231 : LKf "TallySlateModel" 231 137 := Or.inl ⟨_, q2307, Or.inl rfl⟩
theorem f_TallySlateModel_234 : LKf "TallySlateModel" 234 138 := Or.inl ⟨_, q2308, Or.inl rfl⟩
theorem f_TallySlateModel_237 : LKf "TallySlateModel" 237 139 := Or.inl ⟨_, q2309, Or.inl rfl⟩
theorem f_TallySlateModel_240 : LKf "TallySlateModel" 240 140 := Or.inl ⟨_, q2310, Or.inl rfl⟩
theorem f_TallySlateModel_243 : LKf "TallySlateModel" 243 141 := Or.inl ⟨_, q2311, Or.inl rfl⟩
theorem f_TallySlateModel_246 : LKf "TallySlateModel" 246 142 := Or.inl ⟨_, q2312, Or.inl rfl⟩
theorem f_TallySlateModel_249 : LKf "TallySlateModel" 249 143 := Or.inl ⟨_, q2313, Or.inl rfl⟩
theorem f_TallySlateModel_555 : LKf "TallySlateModel" 555 144 := Or.inl ⟨_, q2314, Or.inl rfl⟩
theorem f_TallySlateModel_730 : LKf "TallySlateModel" 730 145 := Or.inl ⟨_, q2315, Or.inl rfl⟩
theorem f_TallySlateModel_733 : LKf "TallySlateModel" 733 146 := Or.inl ⟨_, q2316, Or.inl rfl⟩
theorem f_TallySlate_Reader_23 : LKf "TallySlate$Reader" 23 147 := Or.inl ⟨_, q584, Or.inl rfl⟩
theorem f_TallySlate_Reader_11 : LKf "TallySlate$Reader" 11 148 := Or.inl ⟨_, q585, Or.inl rfl⟩
theorem f_TallySlate_Reader_59 : LKf "TallySlate$Reader" 59 149 := Or.inl ⟨_, q587, Or.inl rfl⟩
theorem f_TallySlate_Reader_100 : LKf "TallySlate$Reader" 100 150 := Or.inl ⟨_, q589, Or.inl rfl⟩
theorem f_TallySlate_Reader_19 : LKf "TallySlate$Reader" 19 151 := Or.inl ⟨_, q590, Or.inl rfl⟩
theorem f_TallySlate_Reader_52 : LKf "TallySlate$Reader" 52 152 := Or.inl ⟨_, q591, Or.inl rfl⟩
theorem f_TallySlate_Reader_193 : LKf "TallySlate$Reader" 193 161 := Or.inl ⟨_, q881, Or.inl rfl⟩
theorem f_TallySlate_Reader_309 : LKf "TallySlate$Reader" 309 165 := Or.inl ⟨_, q931, Or.inr q924⟩
theorem f_TallySlate_Reader_326 : LKf "TallySlate$Reader" 326 165 := Or.inl ⟨_, q932, Or.inl rfl⟩
theorem f_TallySlate_Reader_337 : LKf "TallySlate$Reader" 337 165 := Or.inl ⟨_, q933, Or.inr q928⟩
theorem f_TallySlate_Reader_346 : LKf "TallySlate$Reader" 346 165 := Or.inl ⟨_, q934, Or.inr q930⟩
theorem f_TallySlate_Definition_9 : LKf "TallySlate$Definition" 9 157 := Or.inl ⟨_, q787, Or.inl rfl⟩
theorem f_TallySlate_Block_9 : LKf "TallySlate$Block" 9 159 := Or.inl ⟨_, q841, Or.inl rfl⟩
theorem f_TallySlate_Block_15 : LKf "TallySlate$Block" 15 160 := Or.inl ⟨_, q842, Or.inl rfl⟩
theorem f_TallySlate_Block_19 : LKf "TallySlate$Block" 19 161 := Or.inl ⟨_, q880, Or.inl rfl⟩
theorem f_TallySlate_If_7 : LKf "TallySlate$If" 7 162 := Or.inl ⟨_, q866, Or.inl rfl⟩
theorem f_TallySlate_If_29 : LKf "TallySlate$If" 29 163 := Or.inl ⟨_, q868, Or.inl rfl⟩
theorem f_TallySlate_If_39 : LKf "TallySlate$If" 39 164 := Or.inl ⟨_, q870, Or.inl rfl⟩
theorem f_TallySlate_If_19 : LKf "TallySlate$If" 19 161 := Or.inl ⟨_, q876, Or.inr q877⟩
theorem f_TallySlate_Numeral_7 : LKf "TallySlate$Numeral" 7 166 := Or.inl ⟨_, q920, Or.inl rfl⟩
theorem f_TallySlate_Literal_28 : LKf "TallySlate$Literal" 28 165 := Or.inl ⟨_, q925, Or.inr q926⟩
theorem f_TallySlate_Literal_10 : LKf "TallySlate$Literal" 10 167 := Or.inl ⟨_, q985, Or.inl rfl⟩
theorem f_TallySlate_Nodes_9 : LKf "TallySlate$Nodes" 9 168 := Or.inl ⟨_, q958, Or.inl rfl⟩
theorem f_TallySlate_Nodes_15 : LKf "TallySlate$Nodes" 15 169 := Or.inl ⟨_, q964, Or.inl rfl⟩
theorem f_TallySlate_Nodes_19 : LKf "TallySlate$Nodes" 19 170 := Or.inl ⟨_, q966, Or.inl rfl⟩
theorem f_TallySlate_Nodes_22 : LKf "TallySlate$Nodes" 22 171 := Or.inl ⟨_, q969, Or.inl rfl⟩
theorem f_TallySlate_Scanner_15 : LKf "TallySlate$Scanner" 15 16 := Or.inl ⟨_, q302, Or.inl rfl⟩
theorem f_TallySlate_Scanner_9 : LKf "TallySlate$Scanner" 9 17 := Or.inl ⟨_, q303, Or.inl rfl⟩
theorem f_TallySlate_Scanner_34 : LKf "TallySlate$Scanner" 34 18 := Or.inl ⟨_, q304, Or.inl rfl⟩
theorem f_TallySlate_Scanner_37 : LKf "TallySlate$Scanner" 37 19 := Or.inl ⟨_, q305, Or.inl rfl⟩
theorem f_TallySlate_Scanner_48 : LKf "TallySlate$Scanner" 48 20 := Or.inl ⟨_, q307, Or.inl rfl⟩
theorem f_TallySlate_Scanner_47 : LKf "TallySlate$Scanner" 47 21 := Or.inl ⟨_, q309, Or.inl rfl⟩
theorem f_TallySlate_Scanner_78 : LKf "TallySlate$Scanner" 78 22 := Or.inl ⟨_, q310, Or.inl rfl⟩
theorem f_TallySlate_Scanner_40 : LKf "TallySlate$Scanner" 40 23 := Or.inl ⟨_, q312, Or.inl rfl⟩
theorem f_TallySlate_BuiltIn_31 : LKf "TallySlate$BuiltIn" 31 165 := Or.inl ⟨_, q929, Or.inr q930⟩
theorem f_TallySlate_BuiltIn_16 : LKf "TallySlate$BuiltIn" 16 172 := Or.inl ⟨_, q1019, Or.inl rfl⟩
theorem f_TallySlate_BuiltIn_10 : LKf "TallySlate$BuiltIn" 10 173 := Or.inl ⟨_, q1020, Or.inl rfl⟩
theorem f_TallySlate_Call_33 : LKf "TallySlate$Call" 33 165 := Or.inl ⟨_, q927, Or.inr q928⟩
theorem f_TallySlate_Call_18 : LKf "TallySlate$Call" 18 174 := Or.inl ⟨_, q1041, Or.inl rfl⟩
theorem f_TallySlate_Call_42 : LKf "TallySlate$Call" 42 178 := Or.inl ⟨_, q1045, Or.inl rfl⟩
theorem f_TallySlate_Call_12 : LKf "TallySlate$Call" 12 179 := Or.inl ⟨_, q1047, Or.inl rfl⟩
theorem f_TallySlate_Name_13 : LKf "TallySlate$Name" 13 165 := Or.inl ⟨_, q921, Or.inr q922⟩
theorem f_TallySlate_Name_7 : LKf "TallySlate$Name" 7 180 := Or.inl ⟨_, q1078, Or.inl rfl⟩
theorem f_TallySlate_Places_10 : LKf "TallySlate$Places" 10 181 := Or.inl ⟨_, q1091, Or.inl rfl⟩
theorem f_TallySlate_Prefix_21 : LKf "TallySlate$Prefix" 21 165 := Or.inl ⟨_, q923, Or.inr q924⟩
theorem f_TallySlate_Prefix_7 : LKf "TallySlate$Prefix" 7 182 := Or.inl ⟨_, q1103, Or.inl rfl⟩
theorem f_TallySlate_Prefix_13 : LKf "TallySlate$Prefix" 13 183 := Or.inl ⟨_, q1104, Or.inl rfl⟩
theorem f_TallySlate_Chain_10 : LKf "TallySlate$Chain" 10 184 := Or.inl ⟨_, q1123, Or.inl rfl⟩
theorem f_TallySlate_While_7 : LKf "TallySlate$While" 7 161 := Or.inl ⟨_, q872, Or.inr q873⟩
theorem f_TallySlate_While_19 : LKf "TallySlate$While" 19 185 := Or.inl ⟨_, q1141, Or.inl rfl⟩
theorem f_TallySlate_While_33 : LKf "TallySlate$While" 33 186 := Or.inl ⟨_, q1143, Or.inl rfl⟩
theorem f_TallySlate_For_19 : LKf "TallySlate$For" 19 161 := Or.inl ⟨_, q874, Or.inr q875⟩
theorem f_TallySlate_For_40 : LKf "TallySlate$For" 40 187 := Or.inl ⟨_, q1162, Or.inl rfl⟩
theorem f_TallySlate_For_7 : LKf "TallySlate$For" 7 188 := Or.inl ⟨_, q1164, Or.inl rfl⟩
theorem f_TallySlate_For_46 : LKf "TallySlate$For" 46 189 := Or.inl ⟨_, q1166, Or.inl rfl⟩
theorem f_TallySlate_Plain_30 : LKf "TallySlate$Plain" 30 161 := Or.inl ⟨_, q878, Or.inr q879⟩
theorem f_TallySlate_Plain_9 : LKf "TallySlate$Plain" 9 190 := Or.inl ⟨_, q1192, Or.inl rfl⟩
theorem f_TallySlate_Plain_15 : LKf "TallySlate$Plain" 15 191 := Or.inl ⟨_, q1193, Or.inl rfl⟩
theorem f_TallySlate_Try_37 : LKf "TallySlate$Try" 37 192 := Or.inl ⟨_, q1214, Or.inl rfl⟩
theorem f_TallySlate_Try_30 : LKf "TallySlate$Try" 30 193 := Or.inl ⟨_, q1216, Or.inl rfl⟩
theorem f_TallySlate_Try_16 : LKf "TallySlate$Try" 16 194 := Or.inl ⟨_, q1218, Or.inl rfl⟩
theorem f_TallySlate_Try_44 : LKf "TallySlate$Try" 44 195 := Or.inl ⟨_, q1220, Or.inl rfl⟩
theorem f_TallySlate_Machine_9 : LKf "TallySlate$Machine" 9 24 := Or.inl ⟨_, q449, Or.inl rfl⟩
theorem f_TallySlate_Machine_17 : LKf "TallySlate$Machine" 17 25 := Or.inl ⟨_, q453, Or.inl rfl⟩
theorem f_TallySlate_Machine_75 : LKf "TallySlate$Machine" 75 26 := Or.inl ⟨_, q458, Or.inl rfl⟩
theorem f_TallySlate_Machine_21 : LKf "TallySlate$Machine" 21 27 := Or.inl ⟨_, q463, Or.inl rfl⟩
theorem f_TallySlate_Machine_24 : LKf "TallySlate$Machine" 24 28 := Or.inl ⟨_, q464, Or.inl rfl⟩
theorem f_TallySlate_Machine_27 : LKf "TallySlate$Machine" 27 29 := Or.inl ⟨_, q465, Or.inl rfl⟩
theorem f_TallySlate_Machine_34 : LKf "TallySlate$Machine" 34 30 := Or.inl ⟨_, q466, Or.inl rfl⟩
theorem f_TallySlate_Machine_43 : LKf "TallySlate$Machine" 43 31 := Or.inl ⟨_, q468, Or.inl rfl⟩
theorem f_TallySlate_Machine_50 : LKf "TallySlate$Machine" 50 32 := Or.inl ⟨_, q471, Or.inl rfl⟩
theorem f_TallySlate_Machine_57 : LKf "TallySlate$Machine" 57 33 := Or.inl ⟨_, q473, Or.inl rfl⟩
theorem f_TallySlate_Machine_64 : LKf "TallySlate$Machine" 64 34 := Or.inl ⟨_, q474, Or.inl rfl⟩
theorem f_TallySlate_Machine_71 : LKf "TallySlate$Machine" 71 35 := Or.inl ⟨_, q476, Or.inl rfl⟩
theorem f_TallySlate_Machine_79 : LKf "TallySlate$Machine" 79 36 := Or.inl ⟨_, q479, Or.inl rfl⟩
theorem f_TallySlate_Machine_82 : LKf "TallySlate$Machine" 82 37 := Or.inl ⟨_, q480, Or.inl rfl⟩
theorem f_TallySlate_Machine_85 : LKf "TallySlate$Machine" 85 38 := Or.inl ⟨_, q482, Or.inl rfl⟩
theorem f_TallySlate_Machine_88 : LKf "TallySlate$Machine" 88 39 := Or.inl ⟨_, q484, Or.inl rfl⟩
theorem f_TallySlate_Machine_91 : LKf "TallySlate$Machine" 91 40 := Or.inl ⟨_, q485, Or.inl rfl⟩
theorem f_TallySlate_Machine_94 : LKf "TallySlate$Machine" 94 41 := Or.inl ⟨_, q487, Or.inl rfl⟩
theorem f_TallySlate_Assign_25 : LKf "TallySlate$Assign" 25 196 := Or.inl ⟨_, q1247, Or.inl rfl⟩
theorem f_TallySlate_Assign_7 : LKf "TallySlate$Assign" 7 200 := Or.inl ⟨_, q1257, Or.inl rfl⟩
theorem f_TallySlate_Assign_19 : LKf "TallySlate$Assign" 19 201 := Or.inl ⟨_, q1259, Or.inl rfl⟩
theorem f_TallySlate_Assign_22 : LKf "TallySlate$Assign" 22 202 := Or.inl ⟨_, q1263, Or.inl rfl⟩
theorem f_TallySlate_Row_9 : LKf "TallySlate$Row" 9 203 := Or.inl ⟨_, q1402, Or.inl rfl⟩
theorem f_TallySlate_Table_9 : LKf "TallySlate$Table" 9 204 := Or.inl ⟨_, q1472, Or.inl rfl⟩
theorem f_TallySlate_Table_15 : LKf "TallySlate$Table" 15 205 := Or.inl ⟨_, q1477, Or.inl rfl⟩
theorem f_TallySlate_Pack_9 : LKf "TallySlate$Pack" 9 206 := Or.inl ⟨_, q1588, Or.inl rfl⟩
theorem f_TallySlate_Pack_28 : LKf "TallySlate$Pack" 28 207 := Or.inl ⟨_, q1593, Or.inl rfl⟩
theorem f_TallySlate_Pack_31 : LKf "TallySlate$Pack" 31 208 := Or.inl ⟨_, q1594, Or.inl rfl⟩
theorem f_TallySlate_Whole_9 : LKf "TallySlate$Whole" 9 209 := Or.inl ⟨_, q1669, Or.inl rfl⟩
theorem f_TallySlate_Shelves_9 : LKf "TallySlate$Shelves" 9 42 := Or.inl ⟨_, q345, Or.inl rfl⟩
theorem f_TallySlate_Shelves_15 : LKf "TallySlate$Shelves" 15 43 := Or.inl ⟨_, q348, Or.inl rfl⟩
theorem f_TallySlate_Shelves_20 : LKf "TallySlate$Shelves" 20 44 := Or.inl ⟨_, q349, Or.inl rfl⟩
theorem f_TallySlate_Shelves_24 : LKf "TallySlate$Shelves" 24 45 := Or.inl ⟨_, q352, Or.inl rfl⟩
theorem f_TallySlate_Shelves_27 : LKf "TallySlate$Shelves" 27 46 := Or.inl ⟨_, q353, Or.inl rfl⟩
theorem f_TallySlate_Shelves_31 : LKf "TallySlate$Shelves" 31 47 := Or.inl ⟨_, q356, Or.inl rfl⟩
theorem f_TallySlate_Shelves_40 : LKf "TallySlate$Shelves" 40 48 := Or.inl ⟨_, q357, Or.inl rfl⟩
theorem f_TallySlate_Signs_9 : LKf "TallySlate$Signs" 9 49 := Or.inl ⟨_, q382, Or.inl rfl⟩
theorem f_TallySlate_Maker_9 : LKf "TallySlate$Maker" 9 50 := Or.inl ⟨_, q392, Or.inl rfl⟩
theorem f_TallySlate_Works_9 : LKf "TallySlate$Works" 9 51 := Or.inl ⟨_, q402, Or.inl rfl⟩
theorem f_TallySlate_Output_9 : LKf "TallySlate$Output" 9 52 := Or.inl ⟨_, q412, Or.inl rfl⟩
theorem f_TallySlate_Output_15 : LKf "TallySlate$Output" 15 53 := Or.inl ⟨_, q414, Or.inl rfl⟩
theorem f_TallySlate_56 : LKf "TallySlate" 56 14 := Or.inr ⟨_, _, q275, Or.inl rfl⟩
theorem f_TallySlate_59 : LKf "TallySlate" 59 15 := Or.inr ⟨_, _, q277, Or.inl rfl⟩
theorem f_TallySlate_184 : LKf "TallySlate" 184 42 := Or.inr ⟨_, _, q347, Or.inl rfl⟩
theorem f_TallySlate_173 : LKf "TallySlate" 173 44 := Or.inr ⟨_, _, q350, Or.inl rfl⟩
theorem f_TallySlate_169 : LKf "TallySlate" 169 46 := Or.inr ⟨_, _, q354, Or.inl rfl⟩
theorem f_TallySlate_242 : LKf "TallySlate" 242 48 := Or.inr ⟨_, _, q358, Or.inl rfl⟩
theorem f_TallySlate_166 : LKf "TallySlate" 166 52 := Or.inr ⟨_, _, q413, Or.inl rfl⟩
theorem f_TallySlate_163 : LKf "TallySlate" 163 53 := Or.inr ⟨_, _, q416, Or.inl rfl⟩
theorem f_TallySlate_129 : LKf "TallySlate" 129 54 := Or.inr ⟨_, _, q436, Or.inl rfl⟩
theorem f_TallySlate_143 : LKf "TallySlate" 143 55 := Or.inr ⟨_, _, q438, Or.inl rfl⟩
theorem f_TallySlate_144 : LKf "TallySlate" 144 56 := Or.inr ⟨_, _, q440, Or.inl rfl⟩
theorem f_TallySlate_108 : LKf "TallySlate" 108 30 := Or.inr ⟨_, _, q467, Or.inl rfl⟩
theorem f_TallySlate_159 : LKf "TallySlate" 159 34 := Or.inr ⟨_, _, q475, Or.inl rfl⟩
theorem f_TallySlate_139 : LKf "TallySlate" 139 35 := Or.inr ⟨_, _, q477, Or.inl rfl⟩
theorem f_TallySlate_153 : LKf "TallySlate" 153 37 := Or.inr ⟨_, _, q481, Or.inl rfl⟩
theorem f_TallySlate_147 : LKf "TallySlate" 147 38 := Or.inr ⟨_, _, q483, Or.inl rfl⟩
theorem f_TallySlate_150 : LKf "TallySlate" 150 40 := Or.inr ⟨_, _, q486, Or.inl rfl⟩
theorem f_TallySlate_156 : LKf "TallySlate" 156 41 := Or.inr ⟨_, _, q488, Or.inl rfl⟩
theorem f_TallySlate_85 : LKf "TallySlate" 85 148 := Or.inr ⟨_, _, q586, Or.inl rfl⟩
theorem f_TallySlate_82 : LKf "TallySlate" 82 149 := Or.inr ⟨_, _, q588, Or.inl rfl⟩
theorem f_TallySlate_101 : LKf "TallySlate" 101 154 := Or.inr ⟨_, _, q780, Or.inl rfl⟩
theorem f_TallySlate_93 : LKf "TallySlate" 93 155 := Or.inr ⟨_, _, q782, Or.inl rfl⟩
theorem f_TallySlate_98 : LKf "TallySlate" 98 156 := Or.inr ⟨_, _, q784, Or.inl rfl⟩
theorem f_TallySlate_200 : LKf "TallySlate" 200 203 := Or.inr ⟨_, _, q1406, Or.inl rfl⟩
theorem f_TallySlate_220 : LKf "TallySlate" 220 204 := Or.inr ⟨_, _, q1476, Or.inl rfl⟩
theorem f_TallySlate_225 : LKf "TallySlate" 225 206 := Or.inr ⟨_, _, q1591, Or.inl rfl⟩
theorem f_TallySlate_233 : LKf "TallySlate" 233 209 := Or.inr ⟨_, _, q1672, Or.inl rfl⟩
theorem f_TallySlate_Reader_41 : LKf "TallySlate$Reader" 41 20 := Or.inr ⟨_, _, q306, Or.inl rfl⟩
theorem f_TallySlate_Reader_45 : LKf "TallySlate$Reader" 45 21 := Or.inr ⟨_, _, q308, Or.inl rfl⟩
theorem f_TallySlate_Reader_276 : LKf "TallySlate$Reader" 276 22 := Or.inr ⟨_, _, q311, Or.inl rfl⟩
theorem f_TallySlate_Reader_62 : LKf "TallySlate$Reader" 62 153 := Or.inr ⟨_, _, q778, Or.inl rfl⟩
theorem f_TallySlate_Reader_106 : LKf "TallySlate$Reader" 106 154 := Or.inr ⟨_, _, q779, Or.inl rfl⟩
theorem f_TallySlate_Reader_70 : LKf "TallySlate$Reader" 70 155 := Or.inr ⟨_, _, q781, Or.inl rfl⟩
theorem f_TallySlate_Reader_134 : LKf "TallySlate$Reader" 134 156 := Or.inr ⟨_, _, q785, Or.inl rfl⟩
theorem f_TallySlate_Reader_130 : LKf "TallySlate$Reader" 130 157 := Or.inr ⟨_, _, q788, Or.inl rfl⟩
theorem f_TallySlate_Reader_126 : LKf "TallySlate$Reader" 126 158 := Or.inr ⟨_, _, q789, Or.inl rfl⟩
theorem f_TallySlate_Reader_214 : LKf "TallySlate$Reader" 214 162 := Or.inr ⟨_, _, q867, Or.inl rfl⟩
theorem f_TallySlate_Reader_217 : LKf "TallySlate$Reader" 217 163 := Or.inr ⟨_, _, q869, Or.inl rfl⟩
theorem f_TallySlate_Reader_222 : LKf "TallySlate$Reader" 222 164 := Or.inr ⟨_, _, q871, Or.inl rfl⟩
theorem f_TallySlate_Reader_342 : LKf "TallySlate$Reader" 342 171 := Or.inr ⟨_, _, q975, Or.inl rfl⟩
theorem f_TallySlate_Reader_332 : LKf "TallySlate$Reader" 332 167 := Or.inr ⟨_, _, q986, Or.inl rfl⟩
theorem f_TallySlate_Reader_347 : LKf "TallySlate$Reader" 347 173 := Or.inr ⟨_, _, q1021, Or.inl rfl⟩
theorem f_TallySlate_Reader_66 : LKf "TallySlate$Reader" 66 175 := Or.inr ⟨_, _, q1042, Or.inl rfl⟩
theorem f_TallySlate_Reader_76 : LKf "TallySlate$Reader" 76 176 := Or.inr ⟨_, _, q1043, Or.inl rfl⟩
theorem f_TallySlate_Reader_73 : LKf "TallySlate$Reader" 73 177 := Or.inr ⟨_, _, q1044, Or.inl rfl⟩
theorem f_TallySlate_Reader_67 : LKf "TallySlate$Reader" 67 178 := Or.inr ⟨_, _, q1046, Or.inl rfl⟩
theorem f_TallySlate_Reader_341 : LKf "TallySlate$Reader" 341 179 := Or.inr ⟨_, _, q1048, Or.inl rfl⟩
theorem f_TallySlate_Reader_316 : LKf "TallySlate$Reader" 316 181 := Or.inr ⟨_, _, q1092, Or.inl rfl⟩
theorem f_TallySlate_Reader_292 : LKf "TallySlate$Reader" 292 184 := Or.inr ⟨_, _, q1124, Or.inl rfl⟩
theorem f_TallySlate_Reader_228 : LKf "TallySlate$Reader" 228 185 := Or.inr ⟨_, _, q1142, Or.inl rfl⟩
theorem f_TallySlate_Reader_229 : LKf "TallySlate$Reader" 229 186 := Or.inr ⟨_, _, q1144, Or.inl rfl⟩
theorem f_TallySlate_Reader_235 : LKf "TallySlate$Reader" 235 187 := Or.inr ⟨_, _, q1163, Or.inl rfl⟩
theorem f_TallySlate_Reader_243 : LKf "TallySlate$Reader" 243 188 := Or.inr ⟨_, _, q1165, Or.inl rfl⟩
theorem f_TallySlate_Reader_246 : LKf "TallySlate$Reader" 246 189 := Or.inr ⟨_, _, q1167, Or.inl rfl⟩
theorem f_TallySlate_Reader_204 : LKf "TallySlate$Reader" 204 191 := Or.inr ⟨_, _, q1194, Or.inl rfl⟩
theorem f_TallySlate_Reader_256 : LKf "TallySlate$Reader" 256 192 := Or.inr ⟨_, _, q1215, Or.inl rfl⟩
theorem f_TallySlate_Reader_251 : LKf "TallySlate$Reader" 251 193 := Or.inr ⟨_, _, q1217, Or.inl rfl⟩
theorem f_TallySlate_Reader_250 : LKf "TallySlate$Reader" 250 194 := Or.inr ⟨_, _, q1219, Or.inl rfl⟩
theorem f_TallySlate_Reader_257 : LKf "TallySlate$Reader" 257 195 := Or.inr ⟨_, _, q1221, Or.inl rfl⟩
theorem f_TallySlate_Reader_262 : LKf "TallySlate$Reader" 262 196 := Or.inr ⟨_, _, q1248, Or.inl rfl⟩
theorem f_TallySlate_Reader_261 : LKf "TallySlate$Reader" 261 197 := Or.inr ⟨_, _, q1250, Or.inl rfl⟩
theorem f_TallySlate_Reader_263 : LKf "TallySlate$Reader" 263 198 := Or.inr ⟨_, _, q1253, Or.inl rfl⟩
theorem f_TallySlate_Reader_269 : LKf "TallySlate$Reader" 269 199 := Or.inr ⟨_, _, q1256, Or.inl rfl⟩
theorem f_TallySlate_Reader_266 : LKf "TallySlate$Reader" 266 200 := Or.inr ⟨_, _, q1258, Or.inl rfl⟩
theorem f_TallySlate_Reader_272 : LKf "TallySlate$Reader" 272 201 := Or.inr ⟨_, _, q1261, Or.inl rfl⟩
theorem f_TallySlate_Reader_275 : LKf "TallySlate$Reader" 275 202 := Or.inr ⟨_, _, q1264, Or.inl rfl⟩
theorem f_TallySlate_Literal_20 : LKf "TallySlate$Literal" 20 168 := Or.inr ⟨_, _, q963, Or.inl rfl⟩
theorem f_TallySlate_Literal_16 : LKf "TallySlate$Literal" 16 171 := Or.inr ⟨_, _, q972, Or.inl rfl⟩
theorem f_TallySlate_Scanner_19 : LKf "TallySlate$Scanner" 19 14 := Or.inr ⟨_, _, q274, Or.inl rfl⟩
theorem f_TallySlate_Scanner_25 : LKf "TallySlate$Scanner" 25 15 := Or.inr ⟨_, _, q276, Or.inl rfl⟩
theorem f_TallySlate_BuiltIn_23 : LKf "TallySlate$BuiltIn" 23 168 := Or.inr ⟨_, _, q961, Or.inl rfl⟩
theorem f_TallySlate_BuiltIn_20 : LKf "TallySlate$BuiltIn" 20 171 := Or.inr ⟨_, _, q970, Or.inl rfl⟩
theorem f_TallySlate_Call_25 : LKf "TallySlate$Call" 25 168 := Or.inr ⟨_, _, q962, Or.inl rfl⟩
theorem f_TallySlate_Call_22 : LKf "TallySlate$Call" 22 171 := Or.inr ⟨_, _, q971, Or.inl rfl⟩
theorem f_TallySlate_Places_16 : LKf "TallySlate$Places" 16 168 := Or.inr ⟨_, _, q960, Or.inl rfl⟩
theorem f_TallySlate_Places_28 : LKf "TallySlate$Places" 28 170 := Or.inr ⟨_, _, q967, Or.inl rfl⟩
theorem f_TallySlate_Places_24 : LKf "TallySlate$Places" 24 171 := Or.inr ⟨_, _, q973, Or.inl rfl⟩
theorem f_TallySlate_Prefix_31 : LKf "TallySlate$Prefix" 31 31 := Or.inr ⟨_, _, q469, Or.inl rfl⟩
theorem f_TallySlate_Chain_38 : LKf "TallySlate$Chain" 38 31 := Or.inr ⟨_, _, q470, Or.inl rfl⟩
theorem f_TallySlate_Chain_16 : LKf "TallySlate$Chain" 16 168 := Or.inr ⟨_, _, q959, Or.inl rfl⟩
theorem f_TallySlate_Chain_42 : LKf "TallySlate$Chain" 42 169 := Or.inr ⟨_, _, q965, Or.inl rfl⟩
theorem f_TallySlate_Chain_28 : LKf "TallySlate$Chain" 28 170 := Or.inr ⟨_, _, q968, Or.inl rfl⟩
theorem f_TallySlate_Chain_24 : LKf "TallySlate$Chain" 24 171 := Or.inr ⟨_, _, q974, Or.inl rfl⟩
theorem f_TallySlate_For_29 : LKf "TallySlate$For" 29 26 := Or.inr ⟨_, _, q460, Or.inl rfl⟩
theorem f_TallySlate_Try_7 : LKf "TallySlate$Try" 7 26 := Or.inr ⟨_, _, q457, Or.inl rfl⟩
theorem f_TallySlate_Try_13 : LKf "TallySlate$Try" 13 36 := Or.inr ⟨_, _, q478, Or.inl rfl⟩
theorem f_TallySlate_Machine_141 : LKf "TallySlate$Machine" 141 42 := Or.inr ⟨_, _, q346, Or.inl rfl⟩
theorem f_TallySlate_Machine_142 : LKf "TallySlate$Machine" 142 44 := Or.inr ⟨_, _, q351, Or.inl rfl⟩
theorem f_TallySlate_Machine_138 : LKf "TallySlate$Machine" 138 46 := Or.inr ⟨_, _, q355, Or.inl rfl⟩
theorem f_TallySlate_Machine_97 : LKf "TallySlate$Machine" 97 53 := Or.inr ⟨_, _, q415, Or.inl rfl⟩
theorem f_TallySlate_Machine_100 : LKf "TallySlate$Machine" 100 54 := Or.inr ⟨_, _, q435, Or.inl rfl⟩
theorem f_TallySlate_Machine_103 : LKf "TallySlate$Machine" 103 55 := Or.inr ⟨_, _, q437, Or.inl rfl⟩
theorem f_TallySlate_Machine_106 : LKf "TallySlate$Machine" 106 56 := Or.inr ⟨_, _, q439, Or.inl rfl⟩
theorem f_TallySlate_Machine_180 : LKf "TallySlate$Machine" 180 155 := Or.inr ⟨_, _, q783, Or.inl rfl⟩
theorem f_TallySlate_Machine_175 : LKf "TallySlate$Machine" 175 156 := Or.inr ⟨_, _, q786, Or.inl rfl⟩
theorem f_TallySlate_Machine_188 : LKf "TallySlate$Machine" 188 158 := Or.inr ⟨_, _, q790, Or.inl rfl⟩
theorem f_TallySlate_Machine_255 : LKf "TallySlate$Machine" 255 196 := Or.inr ⟨_, _, q1249, Or.inl rfl⟩
theorem f_TallySlate_Machine_257 : LKf "TallySlate$Machine" 257 197 := Or.inr ⟨_, _, q1251, Or.inl rfl⟩
theorem f_TallySlate_Machine_263 : LKf "TallySlate$Machine" 263 198 := Or.inr ⟨_, _, q1254, Or.inl rfl⟩
theorem f_TallySlate_Machine_249 : LKf "TallySlate$Machine" 249 201 := Or.inr ⟨_, _, q1262, Or.inl rfl⟩
theorem f_TallySlate_Machine_164 : LKf "TallySlate$Machine" 164 203 := Or.inr ⟨_, _, q1407, Or.inl rfl⟩
theorem f_TallySlate_Machine_173 : LKf "TallySlate$Machine" 173 206 := Or.inr ⟨_, _, q1592, Or.inl rfl⟩
theorem f_TallySlate_Machine_115 : LKf "TallySlate$Machine" 115 209 := Or.inr ⟨_, _, q1670, Or.inl rfl⟩
theorem f_TallySlate_Signs_40 : LKf "TallySlate$Signs" 40 24 := Or.inr ⟨_, _, q451, Or.inl rfl⟩
theorem f_TallySlate_Signs_30 : LKf "TallySlate$Signs" 30 25 := Or.inr ⟨_, _, q455, Or.inl rfl⟩
theorem f_TallySlate_Signs_36 : LKf "TallySlate$Signs" 36 26 := Or.inr ⟨_, _, q462, Or.inl rfl⟩
theorem f_TallySlate_Signs_27 : LKf "TallySlate$Signs" 27 203 := Or.inr ⟨_, _, q1405, Or.inl rfl⟩
theorem f_TallySlate_Signs_21 : LKf "TallySlate$Signs" 21 204 := Or.inr ⟨_, _, q1474, Or.inl rfl⟩
theorem f_TallySlate_Maker_95 : LKf "TallySlate$Maker" 95 24 := Or.inr ⟨_, _, q452, Or.inl rfl⟩
theorem f_TallySlate_Maker_98 : LKf "TallySlate$Maker" 98 25 := Or.inr ⟨_, _, q456, Or.inl rfl⟩
theorem f_TallySlate_Maker_17 : LKf "TallySlate$Maker" 17 26 := Or.inr ⟨_, _, q461, Or.inl rfl⟩
theorem f_TallySlate_Maker_144 : LKf "TallySlate$Maker" 144 198 := Or.inr ⟨_, _, q1252, Or.inl rfl⟩
theorem f_TallySlate_Maker_137 : LKf "TallySlate$Maker" 137 199 := Or.inr ⟨_, _, q1255, Or.inl rfl⟩
theorem f_TallySlate_Maker_131 : LKf "TallySlate$Maker" 131 201 := Or.inr ⟨_, _, q1260, Or.inl rfl⟩
theorem f_TallySlate_Maker_60 : LKf "TallySlate$Maker" 60 203 := Or.inr ⟨_, _, q1404, Or.inl rfl⟩
theorem f_TallySlate_Maker_123 : LKf "TallySlate$Maker" 123 204 := Or.inr ⟨_, _, q1475, Or.inl rfl⟩
theorem f_TallySlate_Maker_125 : LKf "TallySlate$Maker" 125 206 := Or.inr ⟨_, _, q1590, Or.inl rfl⟩
theorem f_TallySlate_Works_138 : LKf "TallySlate$Works" 138 24 := Or.inr ⟨_, _, q450, Or.inl rfl⟩
theorem f_TallySlate_Works_21 : LKf "TallySlate$Works" 21 25 := Or.inr ⟨_, _, q454, Or.inl rfl⟩
theorem f_TallySlate_Works_15 : LKf "TallySlate$Works" 15 26 := Or.inr ⟨_, _, q459, Or.inl rfl⟩
theorem f_TallySlate_Works_177 : LKf "TallySlate$Works" 177 32 := Or.inr ⟨_, _, q472, Or.inl rfl⟩
theorem f_TallySlate_Works_66 : LKf "TallySlate$Works" 66 203 := Or.inr ⟨_, _, q1403, Or.inl rfl⟩
theorem f_TallySlate_Works_128 : LKf "TallySlate$Works" 128 204 := Or.inr ⟨_, _, q1473, Or.inl rfl⟩
theorem f_TallySlate_Works_172 : LKf "TallySlate$Works" 172 206 := Or.inr ⟨_, _, q1589, Or.inl rfl⟩
theorem f_TallySlate_Works_201 : LKf "TallySlate$Works" 201 209 := Or.inr ⟨_, _, q1671, Or.inl rfl⟩
