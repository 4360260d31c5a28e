/-! words of the tables: printed by gen_names.py -/
set_option maxRecDepth 100000
theorem q2815 : (Jvm.Cond.code ({ cls := "TallySlateModel", name := "zeros", desc := "(I)V" } : Jvm.MethodName) prog_37_method_89_code (3 : Nat) (Option.none : Option Jvm.ClassFile.FieldType)) ∈ lw_all := lw_g (lw_at lw_m12 13 rfl) rfl
theorem q2816 : (Jvm.Cond.methodLink "TallySlateModel" (654 : Nat) ({ cls := "TallySlateModel", name := "ofOneThing", desc := "(III)V" } : Jvm.MethodName)) ∈ lw_all := lw_g (lw_at lw_m12 14 rfl) rfl
theorem q2818 : (Jvm.Cond.instanceMethod ({ cls := "TallySlateModel", name := "ofOneThing", desc := "(III)V" } : Jvm.MethodName)) ∈ lw_all := lw_g (lw_at lw_m12 16 rfl) rfl
theorem q2819 : (Jvm.Cond.code ({ cls := "TallySlateModel", name := "ofOneThing", desc := "(III)V" } : Jvm.MethodName) prog_37_method_93_code (7 : Nat) (Option.none : Option Jvm.ClassFile.FieldType)) ∈ lw_all := lw_g (lw_at lw_m12 17 rfl) rfl
theorem q2820 : (Jvm.Cond.methodLink "TallySlateModel" (668 : Nat) ({ cls := "TallySlateModel", name := "eachRow", desc := "(IIII)V" } : Jvm.MethodName)) ∈ lw_all := lw_g (lw_at lw_m12 18 rfl) rfl
theorem q2822 : (Jvm.Cond.instanceMethod ({ cls := "TallySlateModel", name := "eachRow", desc := "(IIII)V" } : Jvm.MethodName)) ∈ lw_all := lw_g (lw_at lw_m12 20 rfl) rfl
theorem q2823 : (Jvm.Cond.code ({ cls := "TallySlateModel", name := "eachRow", desc := "(IIII)V" } : Jvm.MethodName) prog_37_method_94_code (7 : Nat) (Option.none : Option Jvm.ClassFile.FieldType)) ∈ lw_all := lw_g (lw_at lw_m12 21 rfl) rfl
theorem q2824 : (Jvm.Cond.methodLink "TallySlateModel" (674 : Nat) ({ cls := "TallySlateModel", name := "worked", desc := "(II)V" } : Jvm.MethodName)) ∈ lw_all := lw_g (lw_at lw_m12 22 rfl) rfl
theorem q2826 : (Jvm.Cond.instanceMethod ({ cls := "TallySlateModel", name := "worked", desc := "(II)V" } : Jvm.MethodName)) ∈ lw_all := lw_g (lw_at lw_m12 24 rfl) rfl
theorem q2827 : (Jvm.Cond.code ({ cls := "TallySlateModel", name := "worked", desc := "(II)V" } : Jvm.MethodName) prog_37_method_92_code (9 : Nat) (Option.none : Option Jvm.ClassFile.FieldType)) ∈ lw_all := lw_g (lw_at lw_m12 25 rfl) rfl
theorem q2828 : (Jvm.Cond.methodLink "TallySlateModel" (671 : Nat) ({ cls := "TallySlateModel", name := "reduced", desc := "(II)I" } : Jvm.MethodName)) ∈ lw_all := lw_g (lw_at lw_m12 26 rfl) rfl
theorem q2830 : (Jvm.Cond.instanceMethod ({ cls := "TallySlateModel", name := "reduced", desc := "(II)I" } : Jvm.MethodName)) ∈ lw_all := lw_g (lw_at lw_m12 28 rfl) rfl
theorem q2831 : (Jvm.Cond.code ({ cls := "TallySlateModel", name := "reduced", desc := "(II)I" } : Jvm.MethodName) prog_37_method_91_code (6 : Nat) (Option.some Jvm.ClassFile.FieldType.int)) ∈ lw_all := lw_g (lw_at lw_m12 29 rfl) rfl
theorem q2832 : (Jvm.Cond.methodLink "TallySlateModel" (657 : Nat) ({ cls := "TallySlateModel", name := "shapes", desc := "(III)V" } : Jvm.MethodName)) ∈ lw_all := lw_g (lw_at lw_m12 30 rfl) rfl
theorem q2834 : (Jvm.Cond.instanceMethod ({ cls := "TallySlateModel", name := "shapes", desc := "(III)V" } : Jvm.MethodName)) ∈ lw_all := lw_g (lw_at lw_m12 32 rfl) rfl
theorem q2835 : (Jvm.Cond.code ({ cls := "TallySlateModel", name := "shapes", desc := "(III)V" } : Jvm.MethodName) prog_37_method_95_code (10 : Nat) (Option.none : Option Jvm.ClassFile.FieldType)) ∈ lw_all := lw_g (lw_at lw_m12 33 rfl) rfl
theorem q2836 : (Jvm.Cond.methodLink "TallySlateModel" (677 : Nat) ({ cls := "TallySlateModel", name := "most", desc := "(II)I" } : Jvm.MethodName)) ∈ lw_all := lw_g (lw_at lw_m12 34 rfl) rfl
theorem q2837 : (Jvm.Cond.static ({ cls := "TallySlateModel", name := "most", desc := "(II)I" } : Jvm.MethodName)) ∈ lw_all := lw_g (lw_at lw_m12 35 rfl) rfl
theorem q2838 : (Jvm.Cond.code ({ cls := "TallySlateModel", name := "most", desc := "(II)I" } : Jvm.MethodName) prog_37_method_86_code (2 : Nat) (Option.some Jvm.ClassFile.FieldType.int)) ∈ lw_all := lw_g (lw_at lw_m12 36 rfl) rfl
theorem q2839 : (Jvm.Cond.methodLink "TallySlateModel" (660 : Nat) ({ cls := "TallySlateModel", name := "ofTwo", desc := "(IIII)V" } : Jvm.MethodName)) ∈ lw_all := lw_g (lw_at lw_m12 37 rfl) rfl
theorem q2841 : (Jvm.Cond.instanceMethod ({ cls := "TallySlateModel", name := "ofTwo", desc := "(IIII)V" } : Jvm.MethodName)) ∈ lw_all := lw_g (lw_at lw_m12 39 rfl) rfl
theorem q2842 : (Jvm.Cond.code ({ cls := "TallySlateModel", name := "ofTwo", desc := "(IIII)V" } : Jvm.MethodName) prog_37_method_107_code (7 : Nat) (Option.none : Option Jvm.ClassFile.FieldType)) ∈ lw_all := lw_g (lw_at lw_m12 40 rfl) rfl
theorem q2843 : (Jvm.Cond.methodLink "TallySlateModel" (694 : Nat) ({ cls := "TallySlateModel", name := "join", desc := "(III)V" } : Jvm.MethodName)) ∈ lw_all := lw_g (lw_at lw_m12 41 rfl) rfl
theorem q2845 : (Jvm.Cond.instanceMethod ({ cls := "TallySlateModel", name := "join", desc := "(III)V" } : Jvm.MethodName)) ∈ lw_all := lw_g (lw_at lw_m12 43 rfl) rfl
theorem q2846 : (Jvm.Cond.code ({ cls := "TallySlateModel", name := "join", desc := "(III)V" } : Jvm.MethodName) prog_37_method_97_code (9 : Nat) (Option.none : Option Jvm.ClassFile.FieldType)) ∈ lw_all := lw_g (lw_at lw_m12 44 rfl) rfl
theorem q2847 : (Jvm.Cond.methodLink "TallySlateModel" (680 : Nat) ({ cls := "TallySlateModel", name := "all", desc := "(IIZ)V" } : Jvm.MethodName)) ∈ lw_all := lw_g (lw_at lw_m12 45 rfl) rfl
theorem q2849 : (Jvm.Cond.instanceMethod ({ cls := "TallySlateModel", name := "all", desc := "(IIZ)V" } : Jvm.MethodName)) ∈ lw_all := lw_g (lw_at lw_m12 47 rfl) rfl
theorem q2850 : (Jvm.Cond.code ({ cls := "TallySlateModel", name := "all", desc := "(IIZ)V" } : Jvm.MethodName) prog_37_method_96_code (5 : Nat) (Option.none : Option Jvm.ClassFile.FieldType)) ∈ lw_all := lw_g (lw_at lw_m12 48 rfl) rfl
theorem q2851 : (Jvm.Cond.methodLink "TallySlateModel" (697 : Nat) ({ cls := "TallySlateModel", name := "ends2", desc := "(IIII)V" } : Jvm.MethodName)) ∈ lw_all := lw_g (lw_at lw_m12 49 rfl) rfl
theorem q2853 : (Jvm.Cond.instanceMethod ({ cls := "TallySlateModel", name := "ends2", desc := "(IIII)V" } : Jvm.MethodName)) ∈ lw_all := lw_g (lw_at lw_m12 51 rfl) rfl
theorem q2854 : (Jvm.Cond.code ({ cls := "TallySlateModel", name := "ends2", desc := "(IIII)V" } : Jvm.MethodName) prog_37_method_98_code (12 : Nat) (Option.none : Option Jvm.ClassFile.FieldType)) ∈ lw_all := lw_g (lw_at lw_m12 52 rfl) rfl
theorem q2855 : (Jvm.Cond.constantLong "TallySlateModel" (684 : Nat) (64 : Int64)) ∈ lw_all := lw_g (lw_at lw_m12 53 rfl) rfl
theorem q2856 : (Jvm.Cond.constantLong "TallySlateModel" (686 : Nat) (20 : Int64)) ∈ lw_all := lw_g (lw_at lw_m12 54 rfl) rfl
theorem q2857 : (Jvm.Cond.methodLink "TallySlateModel" (699 : Nat) ({ cls := "TallySlateModel", name := "cut", desc := "(III)V" } : Jvm.MethodName)) ∈ lw_all := lw_g (lw_at lw_m12 55 rfl) rfl
theorem q2859 : (Jvm.Cond.instanceMethod ({ cls := "TallySlateModel", name := "cut", desc := "(III)V" } : Jvm.MethodName)) ∈ lw_all := lw_g (lw_at lw_m12 57 rfl) rfl
theorem q2860 : (Jvm.Cond.code ({ cls := "TallySlateModel", name := "cut", desc := "(III)V" } : Jvm.MethodName) prog_37_method_99_code (12 : Nat) (Option.none : Option Jvm.ClassFile.FieldType)) ∈ lw_all := lw_g (lw_at lw_m12 58 rfl) rfl
theorem q2861 : (Jvm.Cond.methodLink "TallySlateModel" (702 : Nat) ({ cls := "TallySlateModel", name := "pick", desc := "(III)V" } : Jvm.MethodName)) ∈ lw_all := lw_g (lw_at lw_m12 59 rfl) rfl
theorem q2863 : (Jvm.Cond.instanceMethod ({ cls := "TallySlateModel", name := "pick", desc := "(III)V" } : Jvm.MethodName)) ∈ lw_all := lw_g (lw_at lw_m12 61 rfl) rfl
theorem q2864 : (Jvm.Cond.code ({ cls := "TallySlateModel", name := "pick", desc := "(III)V" } : Jvm.MethodName) prog_37_method_100_code (6 : Nat) (Option.none : Option Jvm.ClassFile.FieldType)) ∈ lw_all := lw_g (lw_at lw_m12 62 rfl) rfl
theorem q2865 : (Jvm.Cond.methodLink "TallySlateModel" (705 : Nat) ({ cls := "TallySlateModel", name := "findIn", desc := "(II)I" } : Jvm.MethodName)) ∈ lw_all := lw_g (lw_at lw_m12 63 rfl) rfl
theorem q2867 : (Jvm.Cond.instanceMethod ({ cls := "TallySlateModel", name := "findIn", desc := "(II)I" } : Jvm.MethodName)) ∈ lw_all := lw_g (lw_at lw_m12 65 rfl) rfl
theorem q2868 : (Jvm.Cond.code ({ cls := "TallySlateModel", name := "findIn", desc := "(II)I" } : Jvm.MethodName) prog_37_method_101_code (4 : Nat) (Option.some Jvm.ClassFile.FieldType.int)) ∈ lw_all := lw_g (lw_at lw_m12 66 rfl) rfl
theorem q2869 : (Jvm.Cond.methodLink "TallySlateModel" (708 : Nat) ({ cls := "TallySlateModel", name := "pad", desc := "(III)V" } : Jvm.MethodName)) ∈ lw_all := lw_g (lw_at lw_m12 67 rfl) rfl
theorem q2871 : (Jvm.Cond.instanceMethod ({ cls := "TallySlateModel", name := "pad", desc := "(III)V" } : Jvm.MethodName)) ∈ lw_all := lw_g (lw_at lw_m12 69 rfl) rfl
theorem q2872 : (Jvm.Cond.code ({ cls := "TallySlateModel", name := "pad", desc := "(III)V" } : Jvm.MethodName) prog_37_method_102_code (9 : Nat) (Option.none : Option Jvm.ClassFile.FieldType)) ∈ lw_all := lw_g (lw_at lw_m12 70 rfl) rfl
theorem q2873 : (Jvm.Cond.methodLink "TallySlateModel" (711 : Nat) ({ cls := "TallySlateModel", name := "outer", desc := "(III)V" } : Jvm.MethodName)) ∈ lw_all := lw_g (lw_at lw_m12 71 rfl) rfl
theorem q2875 : (Jvm.Cond.instanceMethod ({ cls := "TallySlateModel", name := "outer", desc := "(III)V" } : Jvm.MethodName)) ∈ lw_all := lw_g (lw_at lw_m12 73 rfl) rfl
theorem q2876 : (Jvm.Cond.code ({ cls := "TallySlateModel", name := "outer", desc := "(III)V" } : Jvm.MethodName) prog_37_method_103_code (7 : Nat) (Option.none : Option Jvm.ClassFile.FieldType)) ∈ lw_all := lw_g (lw_at lw_m12 74 rfl) rfl
theorem q2877 : (Jvm.Cond.methodLink "TallySlateModel" (714 : Nat) ({ cls := "TallySlateModel", name := "areSame", desc := "(II)Z" } : Jvm.MethodName)) ∈ lw_all := lw_g (lw_at lw_m12 75 rfl) rfl
theorem q2879 : (Jvm.Cond.instanceMethod ({ cls := "TallySlateModel", name := "areSame", desc := "(II)Z" } : Jvm.MethodName)) ∈ lw_all := lw_g (lw_at lw_m12 77 rfl) rfl
theorem q2880 : (Jvm.Cond.code ({ cls := "TallySlateModel", name := "areSame", desc := "(II)Z" } : Jvm.MethodName) prog_37_method_106_code (9 : Nat) (Option.some Jvm.ClassFile.FieldType.boolean)) ∈ lw_all := lw_g (lw_at lw_m12 78 rfl) rfl
theorem q2881 : (Jvm.Cond.methodLink "TallySlateModel" (691 : Nat) ({ cls := "TallySlateModel", name := "arePlainSame", desc := "(II)Z" } : Jvm.MethodName)) ∈ lw_all := lw_g (lw_at lw_m12 79 rfl) rfl
theorem q2883 : (Jvm.Cond.instanceMethod ({ cls := "TallySlateModel", name := "arePlainSame", desc := "(II)Z" } : Jvm.MethodName)) ∈ lw_all := lw_g (lw_at lw_m12 81 rfl) rfl
theorem q2884 : (Jvm.Cond.code ({ cls := "TallySlateModel", name := "arePlainSame", desc := "(II)Z" } : Jvm.MethodName) prog_37_method_105_code (5 : Nat) (Option.some Jvm.ClassFile.FieldType.boolean)) ∈ lw_all := lw_g (lw_at lw_m12 82 rfl) rfl
theorem q2885 : (Jvm.Cond.methodLink "TallySlateModel" (688 : Nat) ({ cls := "TallySlateModel", name := "areSameRows", desc := "(II)Z" } : Jvm.MethodName)) ∈ lw_all := lw_g (lw_at lw_m12 83 rfl) rfl
theorem q2887 : (Jvm.Cond.instanceMethod ({ cls := "TallySlateModel", name := "areSameRows", desc := "(II)Z" } : Jvm.MethodName)) ∈ lw_all := lw_g (lw_at lw_m12 85 rfl) rfl
theorem q2888 : (Jvm.Cond.code ({ cls := "TallySlateModel", name := "areSameRows", desc := "(II)Z" } : Jvm.MethodName) prog_37_method_104_code (5 : Nat) (Option.some Jvm.ClassFile.FieldType.boolean)) ∈ lw_all := lw_g (lw_at lw_m12 86 rfl) rfl
theorem q2889 : (Jvm.Cond.methodLink "TallySlateModel" (594 : Nat) ({ cls := "TallySlateModel", name := "way", desc := "(IIII)V" } : Jvm.MethodName)) ∈ lw_all := lw_g (lw_at lw_m12 87 rfl) rfl
theorem q2891 : (Jvm.Cond.instanceMethod ({ cls := "TallySlateModel", name := "way", desc := "(IIII)V" } : Jvm.MethodName)) ∈ lw_all := lw_g (lw_at lw_m12 89 rfl) rfl
theorem q2892 : (Jvm.Cond.code ({ cls := "TallySlateModel", name := "way", desc := "(IIII)V" } : Jvm.MethodName) prog_37_method_70_code (5 : Nat) (Option.none : Option Jvm.ClassFile.FieldType)) ∈ lw_all := lw_g (lw_at lw_m12 90 rfl) rfl
theorem q2893 : (Jvm.Cond.methodLink "TallySlateModel" (585 : Nat) ({ cls := "TallySlateModel", name := "next", desc := "(I)V" } : Jvm.MethodName)) ∈ lw_all := lw_g (lw_at lw_m12 91 rfl) rfl
theorem q2895 : (Jvm.Cond.instanceMethod ({ cls := "TallySlateModel", name := "next", desc := "(I)V" } : Jvm.MethodName)) ∈ lw_all := lw_g (lw_at lw_m12 93 rfl) rfl
theorem q2896 : (Jvm.Cond.code ({ cls := "TallySlateModel", name := "next", desc := "(I)V" } : Jvm.MethodName) prog_37_method_77_code (7 : Nat) (Option.none : Option Jvm.ClassFile.FieldType)) ∈ lw_all := lw_g (lw_at lw_m12 94 rfl) rfl
theorem q2897 : (Jvm.Cond.methodLink "TallySlateModel" (549 : Nat) ({ cls := "TallySlateModel", name := "store", desc := "(III)V" } : Jvm.MethodName)) ∈ lw_all := lw_g (lw_at lw_m12 95 rfl) rfl
theorem q2899 : (Jvm.Cond.instanceMethod ({ cls := "TallySlateModel", name := "store", desc := "(III)V" } : Jvm.MethodName)) ∈ lw_all := lw_g (lw_at lw_m12 97 rfl) rfl
theorem q2900 : (Jvm.Cond.code ({ cls := "TallySlateModel", name := "store", desc := "(III)V" } : Jvm.MethodName) prog_37_method_66_code (4 : Nat) (Option.none : Option Jvm.ClassFile.FieldType)) ∈ lw_all := lw_g (lw_at lw_m12 98 rfl) rfl
theorem q2901 : (Jvm.Cond.methodLink "TallySlateModel" (588 : Nat) ({ cls := "TallySlateModel", name := "putAt", desc := "(I)V" } : Jvm.MethodName)) ∈ lw_all := lw_g (lw_at lw_m12 99 rfl) rfl
theorem q2903 : (Jvm.Cond.instanceMethod ({ cls := "TallySlateModel", name := "putAt", desc := "(I)V" } : Jvm.MethodName)) ∈ lw_all := lw_g (lw_at lw_m12 101 rfl) rfl
theorem q2904 : (Jvm.Cond.code ({ cls := "TallySlateModel", name := "putAt", desc := "(I)V" } : Jvm.MethodName) prog_37_method_78_code (15 : Nat) (Option.none : Option Jvm.ClassFile.FieldType)) ∈ lw_all := lw_g (lw_at lw_m12 102 rfl) rfl
theorem q2905 : (Jvm.Cond.methodLink "TallySlateModel" (591 : Nat) ({ cls := "TallySlateModel", name := "forNext", desc := "(I)V" } : Jvm.MethodName)) ∈ lw_all := lw_g (lw_at lw_m12 103 rfl) rfl
theorem q2907 : (Jvm.Cond.instanceMethod ({ cls := "TallySlateModel", name := "forNext", desc := "(I)V" } : Jvm.MethodName)) ∈ lw_all := lw_g (lw_at lw_m12 105 rfl) rfl
theorem q2908 : (Jvm.Cond.code ({ cls := "TallySlateModel", name := "forNext", desc := "(I)V" } : Jvm.MethodName) prog_37_method_75_code (3 : Nat) (Option.none : Option Jvm.ClassFile.FieldType)) ∈ lw_all := lw_g (lw_at lw_m12 106 rfl) rfl
theorem q2909 : (Jvm.Cond.methodLink "TallySlateModel" (598 : Nat) ({ cls := "TallySlateModel", name := "ofOne", desc := "(I)V" } : Jvm.MethodName)) ∈ lw_all := lw_g (lw_at lw_m12 107 rfl) rfl
theorem q2911 : (Jvm.Cond.instanceMethod ({ cls := "TallySlateModel", name := "ofOne", desc := "(I)V" } : Jvm.MethodName)) ∈ lw_all := lw_g (lw_at lw_m12 109 rfl) rfl
theorem q2912 : (Jvm.Cond.code ({ cls := "TallySlateModel", name := "ofOne", desc := "(I)V" } : Jvm.MethodName) prog_37_method_74_code (5 : Nat) (Option.none : Option Jvm.ClassFile.FieldType)) ∈ lw_all := lw_g (lw_at lw_m12 110 rfl) rfl
theorem q2913 : (Jvm.Cond.methodLink "TallySlateModel" (601 : Nat) ({ cls := "TallySlateModel", name := "number", desc := "(I)V" } : Jvm.MethodName)) ∈ lw_all := lw_g (lw_at lw_m12 111 rfl) rfl
theorem q2915 : (Jvm.Cond.instanceMethod ({ cls := "TallySlateModel", name := "number", desc := "(I)V" } : Jvm.MethodName)) ∈ lw_all := lw_g (lw_at lw_m12 113 rfl) rfl
theorem q2916 : (Jvm.Cond.code ({ cls := "TallySlateModel", name := "number", desc := "(I)V" } : Jvm.MethodName) prog_37_method_109_code (6 : Nat) (Option.none : Option Jvm.ClassFile.FieldType)) ∈ lw_all := lw_g (lw_at lw_m12 114 rfl) rfl
theorem q2917 : (Jvm.Cond.methodLink "TallySlateModel" (607 : Nat) ({ cls := "TallySlateModel", name := "says", desc := "(I)V" } : Jvm.MethodName)) ∈ lw_all := lw_g (lw_at lw_m12 115 rfl) rfl
theorem q2919 : (Jvm.Cond.instanceMethod ({ cls := "TallySlateModel", name := "says", desc := "(I)V" } : Jvm.MethodName)) ∈ lw_all := lw_g (lw_at lw_m12 117 rfl) rfl
theorem q2920 : (Jvm.Cond.code ({ cls := "TallySlateModel", name := "says", desc := "(I)V" } : Jvm.MethodName) prog_37_method_108_code (2 : Nat) (Option.none : Option Jvm.ClassFile.FieldType)) ∈ lw_all := lw_g (lw_at lw_m12 118 rfl) rfl
theorem q2921 : (Jvm.Cond.constantLong "TallySlateModel" (717 : Nat) (9 : Int64)) ∈ lw_all := lw_g (lw_at lw_m12 119 rfl) rfl
theorem q2922 : (Jvm.Cond.methodLink "TallySlateModel" (604 : Nat) ({ cls := "TallySlateModel", name := "form", desc := "(I)V" } : Jvm.MethodName)) ∈ lw_all := lw_g (lw_at lw_m12 120 rfl) rfl
theorem q2924 : (Jvm.Cond.instanceMethod ({ cls := "TallySlateModel", name := "form", desc := "(I)V" } : Jvm.MethodName)) ∈ lw_all := lw_g (lw_at lw_m12 122 rfl) rfl
theorem q2925 : (Jvm.Cond.code ({ cls := "TallySlateModel", name := "form", desc := "(I)V" } : Jvm.MethodName) prog_37_method_112_code (4 : Nat) (Option.none : Option Jvm.ClassFile.FieldType)) ∈ lw_all := lw_g (lw_at lw_m12 123 rfl) rfl
theorem q2926 : (Jvm.Cond.methodLink "TallySlateModel" (722 : Nat) ({ cls := "TallySlateModel", name := "formOfPlain", desc := "(I)V" } : Jvm.MethodName)) ∈ lw_all := lw_g (lw_at lw_m12 124 rfl) rfl
theorem q2928 : (Jvm.Cond.instanceMethod ({ cls := "TallySlateModel", name := "formOfPlain", desc := "(I)V" } : Jvm.MethodName)) ∈ lw_all := lw_g (lw_at lw_m12 126 rfl) rfl
theorem q2929 : (Jvm.Cond.code ({ cls := "TallySlateModel", name := "formOfPlain", desc := "(I)V" } : Jvm.MethodName) prog_37_method_111_code (3 : Nat) (Option.none : Option Jvm.ClassFile.FieldType)) ∈ lw_all := lw_g (lw_at lw_m12 127 rfl) rfl
theorem q2930 : (Jvm.Cond.methodLink "TallySlateModel" (719 : Nat) ({ cls := "TallySlateModel", name := "formOfRow", desc := "(I)V" } : Jvm.MethodName)) ∈ lw_all := lw_g (lw_at lw_m12 128 rfl) rfl
theorem q2932 : (Jvm.Cond.instanceMethod ({ cls := "TallySlateModel", name := "formOfRow", desc := "(I)V" } : Jvm.MethodName)) ∈ lw_all := lw_g (lw_at lw_m12 130 rfl) rfl
theorem q2933 : (Jvm.Cond.code ({ cls := "TallySlateModel", name := "formOfRow", desc := "(I)V" } : Jvm.MethodName) prog_37_method_110_code (3 : Nat) (Option.none : Option Jvm.ClassFile.FieldType)) ∈ lw_all := lw_g (lw_at lw_m12 131 rfl) rfl
theorem q2934 : (Jvm.Cond.methodLink "TallySlateModel" (567 : Nat) ({ cls := "TallySlateModel", name := "isTaken", desc := "()Z" } : Jvm.MethodName)) ∈ lw_all := lw_g (lw_at lw_m12 132 rfl) rfl
theorem q2936 : (Jvm.Cond.instanceMethod ({ cls := "TallySlateModel", name := "isTaken", desc := "()Z" } : Jvm.MethodName)) ∈ lw_all := lw_g (lw_at lw_m12 134 rfl) rfl
theorem q2937 : (Jvm.Cond.code ({ cls := "TallySlateModel", name := "isTaken", desc := "()Z" } : Jvm.MethodName) prog_37_method_71_code (3 : Nat) (Option.some Jvm.ClassFile.FieldType.boolean)) ∈ lw_all := lw_g (lw_at lw_m12 135 rfl) rfl
theorem q2938 : (Jvm.Cond.methodLink "TallySlateModel" (495 : Nat) ({ cls := "TallySlateModel", name := "lay", desc := "(III)V" } : Jvm.MethodName)) ∈ lw_all := lw_g (lw_at lw_m12 136 rfl) rfl
theorem q2940 : (Jvm.Cond.instanceMethod ({ cls := "TallySlateModel", name := "lay", desc := "(III)V" } : Jvm.MethodName)) ∈ lw_all := lw_g (lw_at lw_m12 138 rfl) rfl
theorem q2941 : (Jvm.Cond.code ({ cls := "TallySlateModel", name := "lay", desc := "(III)V" } : Jvm.MethodName) prog_37_method_58_code (12 : Nat) (Option.none : Option Jvm.ClassFile.FieldType)) ∈ lw_all := lw_g (lw_at lw_m12 139 rfl) rfl
theorem q2942 : (Jvm.Cond.methodLink "TallySlateModel" (492 : Nat) ({ cls := "TallySlateModel", name := "numbersOf", desc := "(I)I" } : Jvm.MethodName)) ∈ lw_all := lw_g (lw_at lw_m12 140 rfl) rfl
theorem q2944 : (Jvm.Cond.instanceMethod ({ cls := "TallySlateModel", name := "numbersOf", desc := "(I)I" } : Jvm.MethodName)) ∈ lw_all := lw_g (lw_at lw_m12 142 rfl) rfl
theorem q2945 : (Jvm.Cond.code ({ cls := "TallySlateModel", name := "numbersOf", desc := "(I)I" } : Jvm.MethodName) prog_37_method_57_code (2 : Nat) (Option.some Jvm.ClassFile.FieldType.int)) ∈ lw_all := lw_g (lw_at lw_m12 143 rfl) rfl
theorem q2946 : (Jvm.Cond.methodLink "TallySlateModel" (570 : Nat) ({ cls := "TallySlateModel", name := "copy", desc := "(II)V" } : Jvm.MethodName)) ∈ lw_all := lw_g (lw_at lw_m12 144 rfl) rfl
theorem q2948 : (Jvm.Cond.instanceMethod ({ cls := "TallySlateModel", name := "copy", desc := "(II)V" } : Jvm.MethodName)) ∈ lw_all := lw_g (lw_at lw_m12 146 rfl) rfl
theorem q2949 : (Jvm.Cond.code ({ cls := "TallySlateModel", name := "copy", desc := "(II)V" } : Jvm.MethodName) prog_37_method_59_code (3 : Nat) (Option.none : Option Jvm.ClassFile.FieldType)) ∈ lw_all := lw_g (lw_at lw_m12 147 rfl) rfl
theorem q2951 : (Jvm.Cond.instanceMethod ({ cls := "TallySlateModel", name := "trouble", desc := "(I)I" } : Jvm.MethodName)) ∈ lw_all := lw_g (lw_at lw_m12 149 rfl) rfl
theorem q2952 : (Jvm.Cond.selects "TallySlateModel" ({ cls := "TallySlateModel", name := "trouble", desc := "(I)I" } : Jvm.MethodName) ({ cls := "TallySlateModel", name := "trouble", desc := "(I)I" } : Jvm.MethodName)) ∈ lw_all := lw_g (lw_at lw_m12 150 rfl) rfl
theorem q2953 : (Jvm.Cond.code ({ cls := "TallySlateModel", name := "trouble", desc := "(I)I" } : Jvm.MethodName) prog_37_method_113_code (2 : Nat) (Option.some Jvm.ClassFile.FieldType.int)) ∈ lw_all := lw_g (lw_at lw_m12 151 rfl) rfl
theorem q2955 : (Jvm.Cond.instanceMethod ({ cls := "TallySlateModel", name := "out", desc := "(I)I" } : Jvm.MethodName)) ∈ lw_all := lw_g (lw_at lw_m12 153 rfl) rfl
theorem q2956 : (Jvm.Cond.selects "TallySlateModel" ({ cls := "TallySlateModel", name := "out", desc := "(I)I" } : Jvm.MethodName) ({ cls := "TallySlateModel", name := "out", desc := "(I)I" } : Jvm.MethodName)) ∈ lw_all := lw_g (lw_at lw_m12 154 rfl) rfl
theorem q2957 : (Jvm.Cond.code ({ cls := "TallySlateModel", name := "out", desc := "(I)I" } : Jvm.MethodName) prog_37_method_114_code (2 : Nat) (Option.some Jvm.ClassFile.FieldType.int)) ∈ lw_all := lw_g (lw_at lw_m12 155 rfl) rfl
theorem q2959 : (Jvm.Cond.instanceMethod ({ cls := "TallySlateModel", name := "outs", desc := "()I" } : Jvm.MethodName)) ∈ lw_all := lw_g (lw_at lw_m12 157 rfl) rfl
theorem q2960 : (Jvm.Cond.selects "TallySlateModel" ({ cls := "TallySlateModel", name := "outs", desc := "()I" } : Jvm.MethodName) ({ cls := "TallySlateModel", name := "outs", desc := "()I" } : Jvm.MethodName)) ∈ lw_all := lw_g (lw_at lw_m12 158 rfl) rfl
theorem q2961 : (Jvm.Cond.code ({ cls := "TallySlateModel", name := "outs", desc := "()I" } : Jvm.MethodName) prog_37_method_115_code (1 : Nat) (Option.some Jvm.ClassFile.FieldType.int)) ∈ lw_all := lw_g (lw_at lw_m12 159 rfl) rfl
theorem q2963 : (Jvm.Cond.instanceMethod ({ cls := "TallySlateModel", name := "show", desc := "(I)I" } : Jvm.MethodName)) ∈ lw_all := lw_g (lw_at lw_m12 161 rfl) rfl
theorem q2964 : (Jvm.Cond.selects "TallySlateModel" ({ cls := "TallySlateModel", name := "show", desc := "(I)I" } : Jvm.MethodName) ({ cls := "TallySlateModel", name := "show", desc := "(I)I" } : Jvm.MethodName)) ∈ lw_all := lw_g (lw_at lw_m12 162 rfl) rfl
theorem q2965 : (Jvm.Cond.code ({ cls := "TallySlateModel", name := "show", desc := "(I)I" } : Jvm.MethodName) prog_37_method_117_code (2 : Nat) (Option.some Jvm.ClassFile.FieldType.int)) ∈ lw_all := lw_g (lw_at lw_m12 163 rfl) rfl
theorem q2966 : (Jvm.Cond.methodLink "TallySlateModel" (725 : Nat) ({ cls := "TallySlateModel", name := "isShelfAt", desc := "(I)Z" } : Jvm.MethodName)) ∈ lw_all := lw_g (lw_at lw_m12 164 rfl) rfl
theorem q2967 : (Jvm.Cond.static ({ cls := "TallySlateModel", name := "isShelfAt", desc := "(I)Z" } : Jvm.MethodName)) ∈ lw_all := lw_g (lw_at lw_m12 165 rfl) rfl
theorem q2968 : (Jvm.Cond.code ({ cls := "TallySlateModel", name := "isShelfAt", desc := "(I)Z" } : Jvm.MethodName) prog_37_method_116_code (1 : Nat) (Option.some Jvm.ClassFile.FieldType.boolean)) ∈ lw_all := lw_g (lw_at lw_m12 166 rfl) rfl
theorem q2970 : (Jvm.Cond.instanceMethod ({ cls := "TallySlateModel", name := "set", desc := "(II)Z" } : Jvm.MethodName)) ∈ lw_all := lw_g (lw_at lw_m12 168 rfl) rfl
theorem q2971 : (Jvm.Cond.selects "TallySlateModel" ({ cls := "TallySlateModel", name := "set", desc := "(II)Z" } : Jvm.MethodName) ({ cls := "TallySlateModel", name := "set", desc := "(II)Z" } : Jvm.MethodName)) ∈ lw_all := lw_g (lw_at lw_m12 169 rfl) rfl
theorem q2972 : (Jvm.Cond.code ({ cls := "TallySlateModel", name := "set", desc := "(II)Z" } : Jvm.MethodName) prog_37_method_118_code (3 : Nat) (Option.some Jvm.ClassFile.FieldType.boolean)) ∈ lw_all := lw_g (lw_at lw_m12 170 rfl) rfl
theorem q2974 : (Jvm.Cond.instanceMethod ({ cls := "TallySlateModel", name := "add", desc := "(II)Z" } : Jvm.MethodName)) ∈ lw_all := lw_g (lw_at lw_m12 172 rfl) rfl
theorem q2975 : (Jvm.Cond.selects "TallySlateModel" ({ cls := "TallySlateModel", name := "add", desc := "(II)Z" } : Jvm.MethodName) ({ cls := "TallySlateModel", name := "add", desc := "(II)Z" } : Jvm.MethodName)) ∈ lw_all := lw_g (lw_at lw_m12 173 rfl) rfl
theorem q2976 : (Jvm.Cond.code ({ cls := "TallySlateModel", name := "add", desc := "(II)Z" } : Jvm.MethodName) prog_37_method_119_code (4 : Nat) (Option.some Jvm.ClassFile.FieldType.boolean)) ∈ lw_all := lw_g (lw_at lw_m12 174 rfl) rfl
theorem q2978 : (Jvm.Cond.instanceMethod ({ cls := "TallySlateModel", name := "clear", desc := "(I)Z" } : Jvm.MethodName)) ∈ lw_all := lw_g (lw_at lw_m12 176 rfl) rfl
theorem q2979 : (Jvm.Cond.selects "TallySlateModel" ({ cls := "TallySlateModel", name := "clear", desc := "(I)Z" } : Jvm.MethodName) ({ cls := "TallySlateModel", name := "clear", desc := "(I)Z" } : Jvm.MethodName)) ∈ lw_all := lw_g (lw_at lw_m12 177 rfl) rfl
theorem q2980 : (Jvm.Cond.code ({ cls := "TallySlateModel", name := "clear", desc := "(I)Z" } : Jvm.MethodName) prog_37_method_120_code (2 : Nat) (Option.some Jvm.ClassFile.FieldType.boolean)) ∈ lw_all := lw_g (lw_at lw_m12 178 rfl) rfl
theorem q2982 : (Jvm.Cond.instanceMethod ({ cls := "TallySlateModel", name := "kind", desc := "(I)I" } : Jvm.MethodName)) ∈ lw_all := lw_g (lw_at lw_m12 180 rfl) rfl
theorem q2983 : (Jvm.Cond.selects "TallySlateModel" ({ cls := "TallySlateModel", name := "kind", desc := "(I)I" } : Jvm.MethodName) ({ cls := "TallySlateModel", name := "kind", desc := "(I)I" } : Jvm.MethodName)) ∈ lw_all := lw_g (lw_at lw_m12 181 rfl) rfl
theorem q2984 : (Jvm.Cond.code ({ cls := "TallySlateModel", name := "kind", desc := "(I)I" } : Jvm.MethodName) prog_37_method_121_code (2 : Nat) (Option.some Jvm.ClassFile.FieldType.int)) ∈ lw_all := lw_g (lw_at lw_m12 182 rfl) rfl
theorem q2986 : (Jvm.Cond.instanceMethod ({ cls := "TallySlateModel", name := "size", desc := "(II)I" } : Jvm.MethodName)) ∈ lw_all := lw_g (lw_at lw_m12 184 rfl) rfl
theorem q2987 : (Jvm.Cond.selects "TallySlateModel" ({ cls := "TallySlateModel", name := "size", desc := "(II)I" } : Jvm.MethodName) ({ cls := "TallySlateModel", name := "size", desc := "(II)I" } : Jvm.MethodName)) ∈ lw_all := lw_g (lw_at lw_m12 185 rfl) rfl
theorem q2988 : (Jvm.Cond.code ({ cls := "TallySlateModel", name := "size", desc := "(II)I" } : Jvm.MethodName) prog_37_method_122_code (5 : Nat) (Option.some Jvm.ClassFile.FieldType.int)) ∈ lw_all := lw_g (lw_at lw_m12 186 rfl) rfl
theorem q2989 : (Jvm.Cond.methodLink "TallySlateModel" (728 : Nat) ({ cls := "TallySlateModel", name := "kind", desc := "(I)I" } : Jvm.MethodName)) ∈ lw_all := lw_g (lw_at lw_m12 187 rfl) rfl
theorem q2991 : (Jvm.Cond.instanceMethod ({ cls := "TallySlateModel", name := "cell", desc := "(III)I" } : Jvm.MethodName)) ∈ lw_all := lw_g (lw_at lw_m12 189 rfl) rfl
theorem q2992 : (Jvm.Cond.selects "TallySlateModel" ({ cls := "TallySlateModel", name := "cell", desc := "(III)I" } : Jvm.MethodName) ({ cls := "TallySlateModel", name := "cell", desc := "(III)I" } : Jvm.MethodName)) ∈ lw_all := lw_g (lw_at lw_m12 190 rfl) rfl
theorem q2993 : (Jvm.Cond.code ({ cls := "TallySlateModel", name := "cell", desc := "(III)I" } : Jvm.MethodName) prog_37_method_123_code (7 : Nat) (Option.some Jvm.ClassFile.FieldType.int)) ∈ lw_all := lw_g (lw_at lw_m12 191 rfl) rfl
theorem q2995 : (Jvm.Cond.instanceMethod ({ cls := "TallySlateModel", name := "same", desc := "(II)Z" } : Jvm.MethodName)) ∈ lw_all := lw_g (lw_at lw_m12 193 rfl) rfl
theorem q2996 : (Jvm.Cond.selects "TallySlateModel" ({ cls := "TallySlateModel", name := "same", desc := "(II)Z" } : Jvm.MethodName) ({ cls := "TallySlateModel", name := "same", desc := "(II)Z" } : Jvm.MethodName)) ∈ lw_all := lw_g (lw_at lw_m12 194 rfl) rfl
theorem q2997 : (Jvm.Cond.code ({ cls := "TallySlateModel", name := "same", desc := "(II)Z" } : Jvm.MethodName) prog_37_method_124_code (5 : Nat) (Option.some Jvm.ClassFile.FieldType.boolean)) ∈ lw_all := lw_g (lw_at lw_m12 195 rfl) rfl
theorem q2999 : (Jvm.Cond.instanceMethod ({ cls := "TallySlateModel", name := "mark", desc := "()I" } : Jvm.MethodName)) ∈ lw_all := lw_g (lw_at lw_m12 197 rfl) rfl
theorem q3000 : (Jvm.Cond.selects "TallySlateModel" ({ cls := "TallySlateModel", name := "mark", desc := "()I" } : Jvm.MethodName) ({ cls := "TallySlateModel", name := "mark", desc := "()I" } : Jvm.MethodName)) ∈ lw_all := lw_g (lw_at lw_m12 198 rfl) rfl
theorem q3001 : (Jvm.Cond.code ({ cls := "TallySlateModel", name := "mark", desc := "()I" } : Jvm.MethodName) prog_37_method_125_code (2 : Nat) (Option.some Jvm.ClassFile.FieldType.int)) ∈ lw_all := lw_g (lw_at lw_m12 199 rfl) rfl
theorem q3003 : (Jvm.Cond.instanceMethod ({ cls := "TallySlateModel", name := "back", desc := "()Z" } : Jvm.MethodName)) ∈ lw_all := lw_g (lw_at lw_m12 201 rfl) rfl
theorem q3004 : (Jvm.Cond.selects "TallySlateModel" ({ cls := "TallySlateModel", name := "back", desc := "()Z" } : Jvm.MethodName) ({ cls := "TallySlateModel", name := "back", desc := "()Z" } : Jvm.MethodName)) ∈ lw_all := lw_g (lw_at lw_m12 202 rfl) rfl
theorem q3005 : (Jvm.Cond.code ({ cls := "TallySlateModel", name := "back", desc := "()Z" } : Jvm.MethodName) prog_37_method_126_code (2 : Nat) (Option.some Jvm.ClassFile.FieldType.boolean)) ∈ lw_all := lw_g (lw_at lw_m12 203 rfl) rfl
theorem q3007 : (Jvm.Cond.instanceMethod ({ cls := "TallySlateModel", name := "sum", desc := "()J" } : Jvm.MethodName)) ∈ lw_all := lw_g (lw_at lw_m12 205 rfl) rfl
theorem q3008 : (Jvm.Cond.selects "TallySlateModel" ({ cls := "TallySlateModel", name := "sum", desc := "()J" } : Jvm.MethodName) ({ cls := "TallySlateModel", name := "sum", desc := "()J" } : Jvm.MethodName)) ∈ lw_all := lw_g (lw_at lw_m12 206 rfl) rfl
theorem q3009 : (Jvm.Cond.code ({ cls := "TallySlateModel", name := "sum", desc := "()J" } : Jvm.MethodName) prog_37_method_131_code (2 : Nat) (Option.some Jvm.ClassFile.FieldType.long)) ∈ lw_all := lw_g (lw_at lw_m12 207 rfl) rfl
theorem q3010 : (Jvm.Cond.methodLink "TallySlateModel" (738 : Nat) ({ cls := "TallySlateModel", name := "mix", desc := "(I)V" } : Jvm.MethodName)) ∈ lw_all := lw_g (lw_at lw_m12 208 rfl) rfl
theorem q3012 : (Jvm.Cond.instanceMethod ({ cls := "TallySlateModel", name := "mix", desc := "(I)V" } : Jvm.MethodName)) ∈ lw_all := lw_g (lw_at lw_m12 210 rfl) rfl
theorem q3013 : (Jvm.Cond.code ({ cls := "TallySlateModel", name := "mix", desc := "(I)V" } : Jvm.MethodName) prog_37_method_127_code (2 : Nat) (Option.none : Option Jvm.ClassFile.FieldType)) ∈ lw_all := lw_g (lw_at lw_m12 211 rfl) rfl
theorem q3014 : (Jvm.Cond.constantLong "TallySlateModel" (736 : Nat) (1000003 : Int64)) ∈ lw_all := lw_g (lw_at lw_m12 212 rfl) rfl
theorem q3015 : (Jvm.Cond.methodLink "TallySlateModel" (747 : Nat) ({ cls := "TallySlateModel", name := "mixThing", desc := "(I)V" } : Jvm.MethodName)) ∈ lw_all := lw_g (lw_at lw_m12 213 rfl) rfl
theorem q3017 : (Jvm.Cond.instanceMethod ({ cls := "TallySlateModel", name := "mixThing", desc := "(I)V" } : Jvm.MethodName)) ∈ lw_all := lw_g (lw_at lw_m12 215 rfl) rfl
theorem q3018 : (Jvm.Cond.code ({ cls := "TallySlateModel", name := "mixThing", desc := "(I)V" } : Jvm.MethodName) prog_37_method_130_code (4 : Nat) (Option.none : Option Jvm.ClassFile.FieldType)) ∈ lw_all := lw_g (lw_at lw_m12 216 rfl) rfl
theorem q3019 : (Jvm.Cond.methodLink "TallySlateModel" (744 : Nat) ({ cls := "TallySlateModel", name := "mixPlain", desc := "(I)V" } : Jvm.MethodName)) ∈ lw_all := lw_g (lw_at lw_m12 217 rfl) rfl
theorem q3021 : (Jvm.Cond.instanceMethod ({ cls := "TallySlateModel", name := "mixPlain", desc := "(I)V" } : Jvm.MethodName)) ∈ lw_all := lw_g (lw_at lw_m12 219 rfl) rfl
theorem q3022 : (Jvm.Cond.code ({ cls := "TallySlateModel", name := "mixPlain", desc := "(I)V" } : Jvm.MethodName) prog_37_method_129_code (3 : Nat) (Option.none : Option Jvm.ClassFile.FieldType)) ∈ lw_all := lw_g (lw_at lw_m12 220 rfl) rfl
theorem q3023 : (Jvm.Cond.methodLink "TallySlateModel" (741 : Nat) ({ cls := "TallySlateModel", name := "mixRow", desc := "(I)V" } : Jvm.MethodName)) ∈ lw_all := lw_g (lw_at lw_m12 221 rfl) rfl
theorem q3025 : (Jvm.Cond.instanceMethod ({ cls := "TallySlateModel", name := "mixRow", desc := "(I)V" } : Jvm.MethodName)) ∈ lw_all := lw_g (lw_at lw_m12 223 rfl) rfl
theorem q3026 : (Jvm.Cond.code ({ cls := "TallySlateModel", name := "mixRow", desc := "(I)V" } : Jvm.MethodName) prog_37_method_128_code (3 : Nat) (Option.none : Option Jvm.ClassFile.FieldType)) ∈ lw_all := lw_g (lw_at lw_m12 224 rfl) rfl
theorem q178 : (Jvm.Cond.initialized "TallySlate$Reader") ∈ lw_all := lw_g (lw_at lw_m1 16 rfl) rfl
theorem q306 : (Jvm.Cond.fieldLinkNest "TallySlate$Reader" (41 : Nat) "TallySlate$Scanner" "token" "I" "TallySlate") ∈ lw_tbl := lw_at lw_m1 144 rfl
theorem q308 : (Jvm.Cond.fieldLinkNest "TallySlate$Reader" (45 : Nat) "TallySlate$Scanner" "place" "I" "TallySlate") ∈ lw_tbl := lw_at lw_m1 146 rfl
theorem q311 : (Jvm.Cond.fieldLinkNest "TallySlate$Reader" (276 : Nat) "TallySlate$Scanner" "value" "I" "TallySlate") ∈ lw_tbl := lw_at lw_m1 149 rfl
theorem q577 : (Jvm.Cond.instanceMethod ({ cls := "TallySlate$Reader", name := "<init>", desc := "(LTallySlate$Scanner;)V" } : Jvm.MethodName)) ∈ lw_all := lw_g (lw_at lw_m2 175 rfl) rfl
theorem q578 : (Jvm.Cond.code ({ cls := "TallySlate$Reader", name := "<init>", desc := "(LTallySlate$Scanner;)V" } : Jvm.MethodName) prog_24_method_1_code (2 : Nat) (Option.none : Option Jvm.ClassFile.FieldType)) ∈ lw_all := lw_g (lw_at lw_m2 176 rfl) rfl
theorem q579 : (Jvm.Cond.methodLink "TallySlate$Reader" (3 : Nat) ({ cls := "java/lang/Object", name := "<init>", desc := "()V" } : Jvm.MethodName)) ∈ lw_all := lw_g (lw_at lw_m2 177 rfl) rfl
theorem q580 : (Jvm.Cond.classLink "TallySlate$Reader" (9 : Nat) "TallySlate$Definition") ∈ lw_all := lw_g (lw_at lw_m2 178 rfl) rfl
theorem q582 : (Jvm.Cond.classLink "TallySlate$Reader" (17 : Nat) "TallySlate$Call") ∈ lw_all := lw_g (lw_at lw_m2 180 rfl) rfl
theorem q584 : (Jvm.Cond.fieldLink "TallySlate$Reader" (23 : Nat) "TallySlate$Reader" "s" "LTallySlate$Scanner;") ∈ lw_all := lw_g (lw_at lw_m2 182 rfl) rfl
theorem q585 : (Jvm.Cond.fieldLink "TallySlate$Reader" (11 : Nat) "TallySlate$Reader" "functions" "[LTallySlate$Definition;") ∈ lw_all := lw_g (lw_at lw_m2 183 rfl) rfl
theorem q587 : (Jvm.Cond.fieldLink "TallySlate$Reader" (59 : Nat) "TallySlate$Reader" "many" "I") ∈ lw_all := lw_g (lw_at lw_m2 185 rfl) rfl
theorem q589 : (Jvm.Cond.fieldLink "TallySlate$Reader" (100 : Nat) "TallySlate$Reader" "now" "LTallySlate$Definition;") ∈ lw_all := lw_g (lw_at lw_m2 187 rfl) rfl
theorem q590 : (Jvm.Cond.fieldLink "TallySlate$Reader" (19 : Nat) "TallySlate$Reader" "calls" "[LTallySlate$Call;") ∈ lw_all := lw_g (lw_at lw_m2 188 rfl) rfl
theorem q591 : (Jvm.Cond.fieldLink "TallySlate$Reader" (52 : Nat) "TallySlate$Reader" "callMany" "I") ∈ lw_all := lw_g (lw_at lw_m2 189 rfl) rfl
theorem q604 : (Jvm.Cond.superclass "TallySlate$Reader" "java/lang/Object") ∈ lw_all := lw_g (lw_at lw_m2 202 rfl) rfl
theorem q606 : (Jvm.Cond.instanceMethod ({ cls := "TallySlate$Reader", name := "read", desc := "()V" } : Jvm.MethodName)) ∈ lw_all := lw_g (lw_at lw_m2 204 rfl) rfl
theorem q607 : (Jvm.Cond.selects "TallySlate$Reader" ({ cls := "TallySlate$Reader", name := "read", desc := "()V" } : Jvm.MethodName) ({ cls := "TallySlate$Reader", name := "read", desc := "()V" } : Jvm.MethodName)) ∈ lw_all := lw_g (lw_at lw_m2 205 rfl) rfl
theorem q608 : (Jvm.Cond.code ({ cls := "TallySlate$Reader", name := "read", desc := "()V" } : Jvm.MethodName) prog_24_method_2_code (2 : Nat) (Option.none : Option Jvm.ClassFile.FieldType)) ∈ lw_all := lw_g (lw_at lw_m2 206 rfl) rfl
theorem q609 : (Jvm.Cond.methodLink "TallySlate$Reader" (27 : Nat) ({ cls := "TallySlate$Scanner", name := "next", desc := "()V" } : Jvm.MethodName)) ∈ lw_all := lw_g (lw_at lw_m2 207 rfl) rfl
theorem q727 : (Jvm.Cond.methodLink "TallySlate$Reader" (34 : Nat) ({ cls := "TallySlate$Scanner", name := "isWord", desc := "(Ljava/lang/String;)Z" } : Jvm.MethodName)) ∈ lw_all := lw_g (lw_at lw_m3 85 rfl) rfl
theorem q752 : (Jvm.Cond.methodLink "TallySlate$Reader" (38 : Nat) ({ cls := "TallySlate$Reader", name := "function", desc := "()V" } : Jvm.MethodName)) ∈ lw_all := lw_g (lw_at lw_m3 110 rfl) rfl
theorem q754 : (Jvm.Cond.instanceMethod ({ cls := "TallySlate$Reader", name := "function", desc := "()V" } : Jvm.MethodName)) ∈ lw_all := lw_g (lw_at lw_m3 112 rfl) rfl
theorem q755 : (Jvm.Cond.code ({ cls := "TallySlate$Reader", name := "function", desc := "()V" } : Jvm.MethodName) prog_24_method_8_code (3 : Nat) (Option.none : Option Jvm.ClassFile.FieldType)) ∈ lw_all := lw_g (lw_at lw_m3 113 rfl) rfl
theorem q756 : (Jvm.Cond.methodLink "TallySlate$Reader" (96 : Nat) ({ cls := "TallySlate$Reader", name := "wantName", desc := "()V" } : Jvm.MethodName)) ∈ lw_all := lw_g (lw_at lw_m3 114 rfl) rfl
theorem q758 : (Jvm.Cond.instanceMethod ({ cls := "TallySlate$Reader", name := "wantName", desc := "()V" } : Jvm.MethodName)) ∈ lw_all := lw_g (lw_at lw_m3 116 rfl) rfl
theorem q759 : (Jvm.Cond.code ({ cls := "TallySlate$Reader", name := "wantName", desc := "()V" } : Jvm.MethodName) prog_24_method_7_code (1 : Nat) (Option.none : Option Jvm.ClassFile.FieldType)) ∈ lw_all := lw_g (lw_at lw_m3 117 rfl) rfl
theorem q760 : (Jvm.Cond.methodLink "TallySlate$Reader" (92 : Nat) ({ cls := "TallySlate$Reader", name := "isReserved", desc := "()Z" } : Jvm.MethodName)) ∈ lw_all := lw_g (lw_at lw_m3 118 rfl) rfl
theorem q762 : (Jvm.Cond.instanceMethod ({ cls := "TallySlate$Reader", name := "isReserved", desc := "()Z" } : Jvm.MethodName)) ∈ lw_all := lw_g (lw_at lw_m3 120 rfl) rfl
theorem q763 : (Jvm.Cond.code ({ cls := "TallySlate$Reader", name := "isReserved", desc := "()Z" } : Jvm.MethodName) prog_24_method_5_code (3 : Nat) (Option.some Jvm.ClassFile.FieldType.boolean)) ∈ lw_all := lw_g (lw_at lw_m3 121 rfl) rfl
theorem q764 : (Jvm.Cond.fieldLinkNest "TallySlate$Reader" (81 : Nat) "TallySlate" "WORDS" "[Ljava/lang/String;" "TallySlate") ∈ lw_tbl := lw_at lw_m3 122 rfl
theorem q766 : (Jvm.Cond.methodLink "TallySlate$Reader" (85 : Nat) ({ cls := "TallySlate$Reader", name := "builtIn", desc := "()I" } : Jvm.MethodName)) ∈ lw_all := lw_g (lw_at lw_m3 124 rfl) rfl
theorem q768 : (Jvm.Cond.instanceMethod ({ cls := "TallySlate$Reader", name := "builtIn", desc := "()I" } : Jvm.MethodName)) ∈ lw_all := lw_g (lw_at lw_m3 126 rfl) rfl
theorem q769 : (Jvm.Cond.code ({ cls := "TallySlate$Reader", name := "builtIn", desc := "()I" } : Jvm.MethodName) prog_24_method_6_code (3 : Nat) (Option.some Jvm.ClassFile.FieldType.int)) ∈ lw_all := lw_g (lw_at lw_m3 127 rfl) rfl
theorem q770 : (Jvm.Cond.fieldLinkNest "TallySlate$Reader" (89 : Nat) "TallySlate" "BUILT_INS" "[Ljava/lang/String;" "TallySlate") ∈ lw_tbl := lw_at lw_m3 128 rfl
theorem q772 : (Jvm.Cond.methodLink "TallySlate$Reader" (48 : Nat) ({ cls := "TallySlate$Scanner", name := "wrong", desc := "(II)LTallySlate$Fault;" } : Jvm.MethodName)) ∈ lw_all := lw_g (lw_at lw_m3 130 rfl) rfl
theorem q774 : (Jvm.Cond.methodLinkNest "TallySlate$Reader" (99 : Nat) ({ cls := "TallySlate$Definition", name := "<init>", desc := "()V" } : Jvm.MethodName) "TallySlate") ∈ lw_tbl := lw_at lw_m3 132 rfl
theorem q778 : (Jvm.Cond.fieldLinkNest "TallySlate$Reader" (62 : Nat) "TallySlate$Definition" "name" "J" "TallySlate") ∈ lw_tbl := lw_at lw_m3 136 rfl
theorem q779 : (Jvm.Cond.fieldLinkNest "TallySlate$Reader" (106 : Nat) "TallySlate$Definition" "place" "I" "TallySlate") ∈ lw_tbl := lw_at lw_m3 137 rfl
theorem q781 : (Jvm.Cond.fieldLinkNest "TallySlate$Reader" (70 : Nat) "TallySlate$Definition" "parameters" "I" "TallySlate") ∈ lw_tbl := lw_at lw_m3 139 rfl
theorem q785 : (Jvm.Cond.fieldLinkNest "TallySlate$Reader" (134 : Nat) "TallySlate$Definition" "variables" "I" "TallySlate") ∈ lw_tbl := lw_at lw_m3 143 rfl
theorem q788 : (Jvm.Cond.fieldLinkNest "TallySlate$Reader" (130 : Nat) "TallySlate$Definition" "names" "[J" "TallySlate") ∈ lw_tbl := lw_at lw_m3 146 rfl
theorem q789 : (Jvm.Cond.fieldLinkNest "TallySlate$Reader" (126 : Nat) "TallySlate$Definition" "body" "LTallySlate$Block;" "TallySlate") ∈ lw_tbl := lw_at lw_m3 147 rfl
theorem q805 : (Jvm.Cond.methodLink "TallySlate$Reader" (103 : Nat) ({ cls := "TallySlate$Scanner", name := "name", desc := "()J" } : Jvm.MethodName)) ∈ lw_all := lw_g (lw_at lw_m3 163 rfl) rfl
theorem q811 : (Jvm.Cond.methodLink "TallySlate$Reader" (107 : Nat) ({ cls := "TallySlate$Reader", name := "isShelf", desc := "(J)Z" } : Jvm.MethodName)) ∈ lw_all := lw_g (lw_at lw_m3 169 rfl) rfl
theorem q812 : (Jvm.Cond.static ({ cls := "TallySlate$Reader", name := "isShelf", desc := "(J)Z" } : Jvm.MethodName)) ∈ lw_all := lw_g (lw_at lw_m3 170 rfl) rfl
theorem q813 : (Jvm.Cond.code ({ cls := "TallySlate$Reader", name := "isShelf", desc := "(J)Z" } : Jvm.MethodName) prog_24_method_4_code (2 : Nat) (Option.some Jvm.ClassFile.FieldType.boolean)) ∈ lw_all := lw_g (lw_at lw_m3 171 rfl) rfl
theorem q814 : (Jvm.Cond.constantLong "TallySlate$Reader" (79 : Nat) (8 : Int64)) ∈ lw_all := lw_g (lw_at lw_m3 172 rfl) rfl
theorem q815 : (Jvm.Cond.methodLink "TallySlate$Reader" (111 : Nat) ({ cls := "TallySlate$Scanner", name := "take", desc := "(I)V" } : Jvm.MethodName)) ∈ lw_all := lw_g (lw_at lw_m3 173 rfl) rfl
theorem q824 : (Jvm.Cond.methodLink "TallySlate$Reader" (115 : Nat) ({ cls := "TallySlate$Scanner", name := "is", desc := "(I)Z" } : Jvm.MethodName)) ∈ lw_all := lw_g (lw_at lw_m3 182 rfl) rfl
theorem q825 : (Jvm.Cond.methodLink "TallySlate$Reader" (119 : Nat) ({ cls := "TallySlate$Reader", name := "parameter", desc := "()V" } : Jvm.MethodName)) ∈ lw_all := lw_g (lw_at lw_m3 183 rfl) rfl
theorem q827 : (Jvm.Cond.instanceMethod ({ cls := "TallySlate$Reader", name := "parameter", desc := "()V" } : Jvm.MethodName)) ∈ lw_all := lw_g (lw_at lw_m3 185 rfl) rfl
theorem q828 : (Jvm.Cond.code ({ cls := "TallySlate$Reader", name := "parameter", desc := "()V" } : Jvm.MethodName) prog_24_method_9_code (3 : Nat) (Option.none : Option Jvm.ClassFile.FieldType)) ∈ lw_all := lw_g (lw_at lw_m3 186 rfl) rfl
theorem q829 : (Jvm.Cond.methodLink "TallySlate$Reader" (122 : Nat) ({ cls := "TallySlate$Reader", name := "block", desc := "()LTallySlate$Block;" } : Jvm.MethodName)) ∈ lw_all := lw_g (lw_at lw_m3 187 rfl) rfl
theorem q831 : (Jvm.Cond.instanceMethod ({ cls := "TallySlate$Reader", name := "block", desc := "()LTallySlate$Block;" } : Jvm.MethodName)) ∈ lw_all := lw_g (lw_at lw_m3 189 rfl) rfl
theorem q832 : (Jvm.Cond.code ({ cls := "TallySlate$Reader", name := "block", desc := "()LTallySlate$Block;" } : Jvm.MethodName) prog_24_method_12_code (2 : Nat) (Option.some (Jvm.ClassFile.FieldType.object "TallySlate$Block"))) ∈ lw_all := lw_g (lw_at lw_m3 190 rfl) rfl
theorem q833 : (Jvm.Cond.classLink "TallySlate$Reader" (143 : Nat) "TallySlate$Block") ∈ lw_all := lw_g (lw_at lw_m3 191 rfl) rfl
theorem q835 : (Jvm.Cond.methodLinkNest "TallySlate$Reader" (145 : Nat) ({ cls := "TallySlate$Block", name := "<init>", desc := "()V" } : Jvm.MethodName) "TallySlate") ∈ lw_tbl := lw_at lw_m3 193 rfl
theorem q848 : (Jvm.Cond.methodLink "TallySlate$Reader" (146 : Nat) ({ cls := "TallySlate$Reader", name := "deed", desc := "()LTallySlate$Deed;" } : Jvm.MethodName)) ∈ lw_all := lw_g (lw_at lw_m3 206 rfl) rfl
theorem q850 : (Jvm.Cond.instanceMethod ({ cls := "TallySlate$Reader", name := "deed", desc := "()LTallySlate$Deed;" } : Jvm.MethodName)) ∈ lw_all := lw_g (lw_at lw_m3 208 rfl) rfl
theorem q851 : (Jvm.Cond.code ({ cls := "TallySlate$Reader", name := "deed", desc := "()LTallySlate$Deed;" } : Jvm.MethodName) prog_24_method_13_code (3 : Nat) (Option.some (Jvm.ClassFile.FieldType.object "TallySlate$Deed"))) ∈ lw_all := lw_g (lw_at lw_m3 209 rfl) rfl
theorem q853 : (Jvm.Cond.methodLink "TallySlate$Reader" (156 : Nat) ({ cls := "TallySlate$Reader", name := "choice", desc := "()LTallySlate$Deed;" } : Jvm.MethodName)) ∈ lw_all := lw_g (lw_at lw_m3 211 rfl) rfl
theorem q855 : (Jvm.Cond.instanceMethod ({ cls := "TallySlate$Reader", name := "choice", desc := "()LTallySlate$Deed;" } : Jvm.MethodName)) ∈ lw_all := lw_g (lw_at lw_m3 213 rfl) rfl
theorem q856 : (Jvm.Cond.code ({ cls := "TallySlate$Reader", name := "choice", desc := "()LTallySlate$Deed;" } : Jvm.MethodName) prog_24_method_16_code (2 : Nat) (Option.some (Jvm.ClassFile.FieldType.object "TallySlate$Deed"))) ∈ lw_all := lw_g (lw_at lw_m3 214 rfl) rfl
theorem q857 : (Jvm.Cond.classLink "TallySlate$Reader" (211 : Nat) "TallySlate$If") ∈ lw_all := lw_g (lw_at lw_m3 215 rfl) rfl
theorem q859 : (Jvm.Cond.methodLinkNest "TallySlate$Reader" (213 : Nat) ({ cls := "TallySlate$If", name := "<init>", desc := "()V" } : Jvm.MethodName) "TallySlate") ∈ lw_tbl := lw_at lw_m3 217 rfl
theorem q867 : (Jvm.Cond.fieldLinkNest "TallySlate$Reader" (214 : Nat) "TallySlate$If" "test" "LTallySlate$Node;" "TallySlate") ∈ lw_tbl := lw_at lw_m3 225 rfl
theorem q869 : (Jvm.Cond.fieldLinkNest "TallySlate$Reader" (217 : Nat) "TallySlate$If" "then" "LTallySlate$Block;" "TallySlate") ∈ lw_tbl := lw_at lw_m3 227 rfl
theorem q871 : (Jvm.Cond.fieldLinkNest "TallySlate$Reader" (222 : Nat) "TallySlate$If" "otherwise" "LTallySlate$Block;" "TallySlate") ∈ lw_tbl := lw_at lw_m3 229 rfl
theorem q881 : (Jvm.Cond.fieldLink "TallySlate$Reader" (193 : Nat) "TallySlate$Deed" "place" "I") ∈ lw_all := lw_g (lw_at lw_m3 239 rfl) rfl
theorem q891 : (Jvm.Cond.methodLink "TallySlate$Reader" (208 : Nat) ({ cls := "TallySlate$Reader", name := "expression", desc := "()LTallySlate$Node;" } : Jvm.MethodName)) ∈ lw_all := lw_g (lw_at lw_m4 9 rfl) rfl
theorem q893 : (Jvm.Cond.instanceMethod ({ cls := "TallySlate$Reader", name := "expression", desc := "()LTallySlate$Node;" } : Jvm.MethodName)) ∈ lw_all := lw_g (lw_at lw_m4 11 rfl) rfl
theorem q894 : (Jvm.Cond.code ({ cls := "TallySlate$Reader", name := "expression", desc := "()LTallySlate$Node;" } : Jvm.MethodName) prog_24_method_22_code (1 : Nat) (Option.some (Jvm.ClassFile.FieldType.object "TallySlate$Node"))) ∈ lw_all := lw_g (lw_at lw_m4 12 rfl) rfl
theorem q895 : (Jvm.Cond.methodLink "TallySlate$Reader" (279 : Nat) ({ cls := "TallySlate$Reader", name := "level", desc := "(I)LTallySlate$Node;" } : Jvm.MethodName)) ∈ lw_all := lw_g (lw_at lw_m4 13 rfl) rfl
theorem q897 : (Jvm.Cond.instanceMethod ({ cls := "TallySlate$Reader", name := "level", desc := "(I)LTallySlate$Node;" } : Jvm.MethodName)) ∈ lw_all := lw_g (lw_at lw_m4 15 rfl) rfl
theorem q898 : (Jvm.Cond.code ({ cls := "TallySlate$Reader", name := "level", desc := "(I)LTallySlate$Node;" } : Jvm.MethodName) prog_24_method_23_code (7 : Nat) (Option.some (Jvm.ClassFile.FieldType.object "TallySlate$Node"))) ∈ lw_all := lw_g (lw_at lw_m4 16 rfl) rfl
theorem q899 : (Jvm.Cond.methodLink "TallySlate$Reader" (283 : Nat) ({ cls := "TallySlate$Reader", name := "prefix", desc := "()LTallySlate$Node;" } : Jvm.MethodName)) ∈ lw_all := lw_g (lw_at lw_m4 17 rfl) rfl
theorem q901 : (Jvm.Cond.instanceMethod ({ cls := "TallySlate$Reader", name := "prefix", desc := "()LTallySlate$Node;" } : Jvm.MethodName)) ∈ lw_all := lw_g (lw_at lw_m4 19 rfl) rfl
theorem q902 : (Jvm.Cond.code ({ cls := "TallySlate$Reader", name := "prefix", desc := "()LTallySlate$Node;" } : Jvm.MethodName) prog_24_method_24_code (4 : Nat) (Option.some (Jvm.ClassFile.FieldType.object "TallySlate$Node"))) ∈ lw_all := lw_g (lw_at lw_m4 20 rfl) rfl
theorem q903 : (Jvm.Cond.methodLink "TallySlate$Reader" (301 : Nat) ({ cls := "TallySlate$Reader", name := "places", desc := "()LTallySlate$Node;" } : Jvm.MethodName)) ∈ lw_all := lw_g (lw_at lw_m4 21 rfl) rfl
theorem q905 : (Jvm.Cond.instanceMethod ({ cls := "TallySlate$Reader", name := "places", desc := "()LTallySlate$Node;" } : Jvm.MethodName)) ∈ lw_all := lw_g (lw_at lw_m4 23 rfl) rfl
theorem q906 : (Jvm.Cond.code ({ cls := "TallySlate$Reader", name := "places", desc := "()LTallySlate$Node;" } : Jvm.MethodName) prog_24_method_25_code (4 : Nat) (Option.some (Jvm.ClassFile.FieldType.object "TallySlate$Node"))) ∈ lw_all := lw_g (lw_at lw_m4 24 rfl) rfl
theorem q907 : (Jvm.Cond.methodLink "TallySlate$Reader" (310 : Nat) ({ cls := "TallySlate$Reader", name := "atom", desc := "()LTallySlate$Node;" } : Jvm.MethodName)) ∈ lw_all := lw_g (lw_at lw_m4 25 rfl) rfl
theorem q909 : (Jvm.Cond.instanceMethod ({ cls := "TallySlate$Reader", name := "atom", desc := "()LTallySlate$Node;" } : Jvm.MethodName)) ∈ lw_all := lw_g (lw_at lw_m4 27 rfl) rfl
theorem q910 : (Jvm.Cond.code ({ cls := "TallySlate$Reader", name := "atom", desc := "()LTallySlate$Node;" } : Jvm.MethodName) prog_24_method_26_code (3 : Nat) (Option.some (Jvm.ClassFile.FieldType.object "TallySlate$Node"))) ∈ lw_all := lw_g (lw_at lw_m4 28 rfl) rfl
theorem q911 : (Jvm.Cond.classLink "TallySlate$Reader" (317 : Nat) "TallySlate$Numeral") ∈ lw_all := lw_g (lw_at lw_m4 29 rfl) rfl
theorem q913 : (Jvm.Cond.methodLink "TallySlate$Reader" (319 : Nat) ({ cls := "TallySlate$Numeral", name := "<init>", desc := "(I)V" } : Jvm.MethodName)) ∈ lw_all := lw_g (lw_at lw_m4 31 rfl) rfl
theorem q931 : (Jvm.Cond.fieldLink "TallySlate$Reader" (309 : Nat) "TallySlate$Prefix" "place" "I") ∈ lw_all := lw_g (lw_at lw_m4 49 rfl) rfl
theorem q932 : (Jvm.Cond.fieldLink "TallySlate$Reader" (326 : Nat) "TallySlate$Node" "place" "I") ∈ lw_all := lw_g (lw_at lw_m4 50 rfl) rfl
theorem q933 : (Jvm.Cond.fieldLink "TallySlate$Reader" (337 : Nat) "TallySlate$Call" "place" "I") ∈ lw_all := lw_g (lw_at lw_m4 51 rfl) rfl
theorem q934 : (Jvm.Cond.fieldLink "TallySlate$Reader" (346 : Nat) "TallySlate$BuiltIn" "place" "I") ∈ lw_all := lw_g (lw_at lw_m4 52 rfl) rfl
theorem q940 : (Jvm.Cond.methodLink "TallySlate$Reader" (320 : Nat) ({ cls := "TallySlate$Reader", name := "literal", desc := "()LTallySlate$Node;" } : Jvm.MethodName)) ∈ lw_all := lw_g (lw_at lw_m4 58 rfl) rfl
theorem q942 : (Jvm.Cond.instanceMethod ({ cls := "TallySlate$Reader", name := "literal", desc := "()LTallySlate$Node;" } : Jvm.MethodName)) ∈ lw_all := lw_g (lw_at lw_m4 60 rfl) rfl
theorem q943 : (Jvm.Cond.code ({ cls := "TallySlate$Reader", name := "literal", desc := "()LTallySlate$Node;" } : Jvm.MethodName) prog_24_method_27_code (3 : Nat) (Option.some (Jvm.ClassFile.FieldType.object "TallySlate$Node"))) ∈ lw_all := lw_g (lw_at lw_m4 61 rfl) rfl
theorem q944 : (Jvm.Cond.classLink "TallySlate$Reader" (329 : Nat) "TallySlate$Literal") ∈ lw_all := lw_g (lw_at lw_m4 62 rfl) rfl
theorem q946 : (Jvm.Cond.methodLinkNest "TallySlate$Reader" (331 : Nat) ({ cls := "TallySlate$Literal", name := "<init>", desc := "()V" } : Jvm.MethodName) "TallySlate") ∈ lw_tbl := lw_at lw_m4 64 rfl
theorem q975 : (Jvm.Cond.fieldLinkNest "TallySlate$Reader" (342 : Nat) "TallySlate$Nodes" "many" "I" "TallySlate") ∈ lw_tbl := lw_at lw_m4 93 rfl
theorem q986 : (Jvm.Cond.fieldLinkNest "TallySlate$Reader" (332 : Nat) "TallySlate$Literal" "parts" "LTallySlate$Nodes;" "TallySlate") ∈ lw_tbl := lw_at lw_m4 104 rfl
theorem q991 : (Jvm.Cond.methodLink "TallySlate$Reader" (296 : Nat) ({ cls := "TallySlate$Nodes", name := "add", desc := "(LTallySlate$Node;II)V" } : Jvm.MethodName)) ∈ lw_all := lw_g (lw_at lw_m4 109 rfl) rfl
theorem q999 : (Jvm.Cond.methodLink "TallySlate$Reader" (184 : Nat) ({ cls := "TallySlate$Scanner", name := "isCalled", desc := "()Z" } : Jvm.MethodName)) ∈ lw_all := lw_g (lw_at lw_m4 117 rfl) rfl
theorem q1003 : (Jvm.Cond.methodLink "TallySlate$Reader" (200 : Nat) ({ cls := "TallySlate$Reader", name := "call", desc := "()LTallySlate$Node;" } : Jvm.MethodName)) ∈ lw_all := lw_g (lw_at lw_m4 121 rfl) rfl
theorem q1005 : (Jvm.Cond.instanceMethod ({ cls := "TallySlate$Reader", name := "call", desc := "()LTallySlate$Node;" } : Jvm.MethodName)) ∈ lw_all := lw_g (lw_at lw_m4 123 rfl) rfl
theorem q1006 : (Jvm.Cond.code ({ cls := "TallySlate$Reader", name := "call", desc := "()LTallySlate$Node;" } : Jvm.MethodName) prog_24_method_29_code (5 : Nat) (Option.some (Jvm.ClassFile.FieldType.object "TallySlate$Node"))) ∈ lw_all := lw_g (lw_at lw_m4 124 rfl) rfl
theorem q1007 : (Jvm.Cond.methodLink "TallySlate$Reader" (333 : Nat) ({ cls := "TallySlate$Reader", name := "builtIn", desc := "(II)LTallySlate$Node;" } : Jvm.MethodName)) ∈ lw_all := lw_g (lw_at lw_m4 125 rfl) rfl
theorem q1009 : (Jvm.Cond.instanceMethod ({ cls := "TallySlate$Reader", name := "builtIn", desc := "(II)LTallySlate$Node;" } : Jvm.MethodName)) ∈ lw_all := lw_g (lw_at lw_m4 127 rfl) rfl
theorem q1010 : (Jvm.Cond.code ({ cls := "TallySlate$Reader", name := "builtIn", desc := "(II)LTallySlate$Node;" } : Jvm.MethodName) prog_24_method_30_code (4 : Nat) (Option.some (Jvm.ClassFile.FieldType.object "TallySlate$Node"))) ∈ lw_all := lw_g (lw_at lw_m4 128 rfl) rfl
theorem q1011 : (Jvm.Cond.classLink "TallySlate$Reader" (343 : Nat) "TallySlate$BuiltIn") ∈ lw_all := lw_g (lw_at lw_m4 129 rfl) rfl
theorem q1013 : (Jvm.Cond.methodLink "TallySlate$Reader" (345 : Nat) ({ cls := "TallySlate$BuiltIn", name := "<init>", desc := "(I)V" } : Jvm.MethodName)) ∈ lw_all := lw_g (lw_at lw_m4 131 rfl) rfl
theorem q1021 : (Jvm.Cond.fieldLinkNest "TallySlate$Reader" (347 : Nat) "TallySlate$BuiltIn" "parts" "LTallySlate$Nodes;" "TallySlate") ∈ lw_tbl := lw_at lw_m4 139 rfl
theorem q1028 : (Jvm.Cond.fieldLinkNest "TallySlate$Reader" (348 : Nat) "TallySlate" "WANTS" "[I" "TallySlate") ∈ lw_tbl := lw_at lw_m4 146 rfl
theorem q1030 : (Jvm.Cond.methodLink "TallySlate$Reader" (352 : Nat) ({ cls := "TallySlate$Reader", name := "parts", desc := "(LTallySlate$Nodes;II)V" } : Jvm.MethodName)) ∈ lw_all := lw_g (lw_at lw_m4 148 rfl) rfl
theorem q1032 : (Jvm.Cond.instanceMethod ({ cls := "TallySlate$Reader", name := "parts", desc := "(LTallySlate$Nodes;II)V" } : Jvm.MethodName)) ∈ lw_all := lw_g (lw_at lw_m4 150 rfl) rfl
theorem q1033 : (Jvm.Cond.code ({ cls := "TallySlate$Reader", name := "parts", desc := "(LTallySlate$Nodes;II)V" } : Jvm.MethodName) prog_24_method_31_code (5 : Nat) (Option.none : Option Jvm.ClassFile.FieldType)) ∈ lw_all := lw_g (lw_at lw_m4 151 rfl) rfl
theorem q1035 : (Jvm.Cond.methodLink "TallySlate$Reader" (336 : Nat) ({ cls := "TallySlate$Call", name := "<init>", desc := "(I)V" } : Jvm.MethodName)) ∈ lw_all := lw_g (lw_at lw_m4 153 rfl) rfl
theorem q1042 : (Jvm.Cond.fieldLinkNest "TallySlate$Reader" (66 : Nat) "TallySlate$Call" "name" "J" "TallySlate") ∈ lw_tbl := lw_at lw_m4 160 rfl
theorem q1043 : (Jvm.Cond.fieldLinkNest "TallySlate$Reader" (76 : Nat) "TallySlate$Call" "namePlace" "I" "TallySlate") ∈ lw_tbl := lw_at lw_m4 161 rfl
theorem q1044 : (Jvm.Cond.fieldLinkNest "TallySlate$Reader" (73 : Nat) "TallySlate$Call" "wants" "I" "TallySlate") ∈ lw_tbl := lw_at lw_m4 162 rfl
theorem q1046 : (Jvm.Cond.fieldLinkNest "TallySlate$Reader" (67 : Nat) "TallySlate$Call" "function" "LTallySlate$Definition;" "TallySlate") ∈ lw_tbl := lw_at lw_m4 164 rfl
theorem q1048 : (Jvm.Cond.fieldLinkNest "TallySlate$Reader" (341 : Nat) "TallySlate$Call" "parts" "LTallySlate$Nodes;" "TallySlate") ∈ lw_tbl := lw_at lw_m4 166 rfl
theorem q1063 : (Jvm.Cond.methodLink "TallySlate$Reader" (338 : Nat) ({ cls := "TallySlate$Reader", name := "remember", desc := "(LTallySlate$Call;)V" } : Jvm.MethodName)) ∈ lw_all := lw_g (lw_at lw_m4 181 rfl) rfl
theorem q1065 : (Jvm.Cond.instanceMethod ({ cls := "TallySlate$Reader", name := "remember", desc := "(LTallySlate$Call;)V" } : Jvm.MethodName)) ∈ lw_all := lw_g (lw_at lw_m4 183 rfl) rfl
theorem q1066 : (Jvm.Cond.code ({ cls := "TallySlate$Reader", name := "remember", desc := "(LTallySlate$Call;)V" } : Jvm.MethodName) prog_24_method_28_code (4 : Nat) (Option.none : Option Jvm.ClassFile.FieldType)) ∈ lw_all := lw_g (lw_at lw_m4 184 rfl) rfl
theorem q1067 : (Jvm.Cond.classLink "TallySlate$Reader" (323 : Nat) "TallySlate$Name") ∈ lw_all := lw_g (lw_at lw_m4 185 rfl) rfl
theorem q1069 : (Jvm.Cond.methodLink "TallySlate$Reader" (233 : Nat) ({ cls := "TallySlate$Reader", name := "name", desc := "()I" } : Jvm.MethodName)) ∈ lw_all := lw_g (lw_at lw_m4 187 rfl) rfl
theorem q1071 : (Jvm.Cond.instanceMethod ({ cls := "TallySlate$Reader", name := "name", desc := "()I" } : Jvm.MethodName)) ∈ lw_all := lw_g (lw_at lw_m4 189 rfl) rfl
theorem q1072 : (Jvm.Cond.code ({ cls := "TallySlate$Reader", name := "name", desc := "()I" } : Jvm.MethodName) prog_24_method_10_code (4 : Nat) (Option.some Jvm.ClassFile.FieldType.int)) ∈ lw_all := lw_g (lw_at lw_m4 190 rfl) rfl
theorem q1073 : (Jvm.Cond.methodLink "TallySlate$Reader" (137 : Nat) ({ cls := "java/lang/Math", name := "max", desc := "(II)I" } : Jvm.MethodName)) ∈ lw_all := lw_g (lw_at lw_m4 191 rfl) rfl
theorem q1074 : (Jvm.Cond.methodLink "TallySlate$Reader" (325 : Nat) ({ cls := "TallySlate$Name", name := "<init>", desc := "(I)V" } : Jvm.MethodName)) ∈ lw_all := lw_g (lw_at lw_m4 192 rfl) rfl
theorem q1083 : (Jvm.Cond.classLink "TallySlate$Reader" (313 : Nat) "TallySlate$Places") ∈ lw_all := lw_g (lw_at lw_m4 201 rfl) rfl
theorem q1085 : (Jvm.Cond.methodLinkNest "TallySlate$Reader" (315 : Nat) ({ cls := "TallySlate$Places", name := "<init>", desc := "()V" } : Jvm.MethodName) "TallySlate") ∈ lw_tbl := lw_at lw_m4 203 rfl
theorem q1092 : (Jvm.Cond.fieldLinkNest "TallySlate$Reader" (316 : Nat) "TallySlate$Places" "parts" "LTallySlate$Nodes;" "TallySlate") ∈ lw_tbl := lw_at lw_m4 210 rfl
theorem q1097 : (Jvm.Cond.classLink "TallySlate$Reader" (304 : Nat) "TallySlate$Prefix") ∈ lw_all := lw_g (lw_at lw_m4 215 rfl) rfl
theorem q1099 : (Jvm.Cond.methodLink "TallySlate$Reader" (306 : Nat) ({ cls := "TallySlate$Prefix", name := "<init>", desc := "(LTallySlate$Node;Z)V" } : Jvm.MethodName)) ∈ lw_all := lw_g (lw_at lw_m4 217 rfl) rfl
theorem q1111 : (Jvm.Cond.methodLink "TallySlate$Reader" (286 : Nat) ({ cls := "TallySlate$Reader", name := "isOf", desc := "(I)Z" } : Jvm.MethodName)) ∈ lw_all := lw_g (lw_at lw_m4 229 rfl) rfl
theorem q1113 : (Jvm.Cond.instanceMethod ({ cls := "TallySlate$Reader", name := "isOf", desc := "(I)Z" } : Jvm.MethodName)) ∈ lw_all := lw_g (lw_at lw_m4 231 rfl) rfl
theorem q1114 : (Jvm.Cond.code ({ cls := "TallySlate$Reader", name := "isOf", desc := "(I)Z" } : Jvm.MethodName) prog_24_method_21_code (2 : Nat) (Option.some Jvm.ClassFile.FieldType.boolean)) ∈ lw_all := lw_g (lw_at lw_m4 232 rfl) rfl
theorem q1115 : (Jvm.Cond.classLink "TallySlate$Reader" (289 : Nat) "TallySlate$Chain") ∈ lw_all := lw_g (lw_at lw_m4 233 rfl) rfl
theorem q1117 : (Jvm.Cond.methodLinkNest "TallySlate$Reader" (291 : Nat) ({ cls := "TallySlate$Chain", name := "<init>", desc := "()V" } : Jvm.MethodName) "TallySlate") ∈ lw_tbl := lw_at lw_m4 235 rfl
theorem q1124 : (Jvm.Cond.fieldLinkNest "TallySlate$Reader" (292 : Nat) "TallySlate$Chain" "parts" "LTallySlate$Nodes;" "TallySlate") ∈ lw_tbl := lw_at lw_m5 2 rfl
theorem q1131 : (Jvm.Cond.methodLink "TallySlate$Reader" (161 : Nat) ({ cls := "TallySlate$Reader", name := "loop", desc := "()LTallySlate$Deed;" } : Jvm.MethodName)) ∈ lw_all := lw_g (lw_at lw_m5 9 rfl) rfl
theorem q1133 : (Jvm.Cond.instanceMethod ({ cls := "TallySlate$Reader", name := "loop", desc := "()LTallySlate$Deed;" } : Jvm.MethodName)) ∈ lw_all := lw_g (lw_at lw_m5 11 rfl) rfl
theorem q1134 : (Jvm.Cond.code ({ cls := "TallySlate$Reader", name := "loop", desc := "()LTallySlate$Deed;" } : Jvm.MethodName) prog_24_method_17_code (2 : Nat) (Option.some (Jvm.ClassFile.FieldType.object "TallySlate$Deed"))) ∈ lw_all := lw_g (lw_at lw_m5 12 rfl) rfl
theorem q1135 : (Jvm.Cond.classLink "TallySlate$Reader" (225 : Nat) "TallySlate$While") ∈ lw_all := lw_g (lw_at lw_m5 13 rfl) rfl
theorem q1137 : (Jvm.Cond.methodLinkNest "TallySlate$Reader" (227 : Nat) ({ cls := "TallySlate$While", name := "<init>", desc := "()V" } : Jvm.MethodName) "TallySlate") ∈ lw_tbl := lw_at lw_m5 15 rfl
theorem q1142 : (Jvm.Cond.fieldLinkNest "TallySlate$Reader" (228 : Nat) "TallySlate$While" "test" "LTallySlate$Node;" "TallySlate") ∈ lw_tbl := lw_at lw_m5 20 rfl
theorem q1144 : (Jvm.Cond.fieldLinkNest "TallySlate$Reader" (229 : Nat) "TallySlate$While" "body" "LTallySlate$Block;" "TallySlate") ∈ lw_tbl := lw_at lw_m5 22 rfl
theorem q1152 : (Jvm.Cond.methodLink "TallySlate$Reader" (166 : Nat) ({ cls := "TallySlate$Reader", name := "walk", desc := "()LTallySlate$Deed;" } : Jvm.MethodName)) ∈ lw_all := lw_g (lw_at lw_m5 30 rfl) rfl
theorem q1154 : (Jvm.Cond.instanceMethod ({ cls := "TallySlate$Reader", name := "walk", desc := "()LTallySlate$Deed;" } : Jvm.MethodName)) ∈ lw_all := lw_g (lw_at lw_m5 32 rfl) rfl
theorem q1155 : (Jvm.Cond.code ({ cls := "TallySlate$Reader", name := "walk", desc := "()LTallySlate$Deed;" } : Jvm.MethodName) prog_24_method_18_code (2 : Nat) (Option.some (Jvm.ClassFile.FieldType.object "TallySlate$Deed"))) ∈ lw_all := lw_g (lw_at lw_m5 33 rfl) rfl
theorem q1156 : (Jvm.Cond.classLink "TallySlate$Reader" (230 : Nat) "TallySlate$For") ∈ lw_all := lw_g (lw_at lw_m5 34 rfl) rfl
theorem q1158 : (Jvm.Cond.methodLinkNest "TallySlate$Reader" (232 : Nat) ({ cls := "TallySlate$For", name := "<init>", desc := "()V" } : Jvm.MethodName) "TallySlate") ∈ lw_tbl := lw_at lw_m5 36 rfl
theorem q1163 : (Jvm.Cond.fieldLinkNest "TallySlate$Reader" (235 : Nat) "TallySlate$For" "number" "I" "TallySlate") ∈ lw_tbl := lw_at lw_m5 41 rfl
theorem q1165 : (Jvm.Cond.fieldLinkNest "TallySlate$Reader" (243 : Nat) "TallySlate$For" "of" "LTallySlate$Node;" "TallySlate") ∈ lw_tbl := lw_at lw_m5 43 rfl
theorem q1167 : (Jvm.Cond.fieldLinkNest "TallySlate$Reader" (246 : Nat) "TallySlate$For" "body" "LTallySlate$Block;" "TallySlate") ∈ lw_tbl := lw_at lw_m5 45 rfl
theorem q1177 : (Jvm.Cond.methodLink "TallySlate$Reader" (240 : Nat) ({ cls := "TallySlate$Reader", name := "take", desc := "(Ljava/lang/String;)V" } : Jvm.MethodName)) ∈ lw_all := lw_g (lw_at lw_m5 55 rfl) rfl
theorem q1179 : (Jvm.Cond.instanceMethod ({ cls := "TallySlate$Reader", name := "take", desc := "(Ljava/lang/String;)V" } : Jvm.MethodName)) ∈ lw_all := lw_g (lw_at lw_m5 57 rfl) rfl
theorem q1180 : (Jvm.Cond.code ({ cls := "TallySlate$Reader", name := "take", desc := "(Ljava/lang/String;)V" } : Jvm.MethodName) prog_24_method_11_code (2 : Nat) (Option.none : Option Jvm.ClassFile.FieldType)) ∈ lw_all := lw_g (lw_at lw_m5 58 rfl) rfl
theorem q1182 : (Jvm.Cond.methodLink "TallySlate$Reader" (171 : Nat) ({ cls := "TallySlate$Reader", name := "plain", desc := "(I)LTallySlate$Deed;" } : Jvm.MethodName)) ∈ lw_all := lw_g (lw_at lw_m5 60 rfl) rfl
theorem q1184 : (Jvm.Cond.instanceMethod ({ cls := "TallySlate$Reader", name := "plain", desc := "(I)LTallySlate$Deed;" } : Jvm.MethodName)) ∈ lw_all := lw_g (lw_at lw_m5 62 rfl) rfl
theorem q1185 : (Jvm.Cond.code ({ cls := "TallySlate$Reader", name := "plain", desc := "(I)LTallySlate$Deed;" } : Jvm.MethodName) prog_24_method_15_code (3 : Nat) (Option.some (Jvm.ClassFile.FieldType.object "TallySlate$Deed"))) ∈ lw_all := lw_g (lw_at lw_m5 63 rfl) rfl
theorem q1186 : (Jvm.Cond.classLink "TallySlate$Reader" (196 : Nat) "TallySlate$Plain") ∈ lw_all := lw_g (lw_at lw_m5 64 rfl) rfl
theorem q1188 : (Jvm.Cond.methodLink "TallySlate$Reader" (198 : Nat) ({ cls := "TallySlate$Plain", name := "<init>", desc := "(I)V" } : Jvm.MethodName)) ∈ lw_all := lw_g (lw_at lw_m5 66 rfl) rfl
theorem q1194 : (Jvm.Cond.fieldLinkNest "TallySlate$Reader" (204 : Nat) "TallySlate$Plain" "what" "LTallySlate$Node;" "TallySlate") ∈ lw_tbl := lw_at lw_m5 72 rfl
theorem q1204 : (Jvm.Cond.methodLink "TallySlate$Reader" (181 : Nat) ({ cls := "TallySlate$Reader", name := "attempt", desc := "()LTallySlate$Deed;" } : Jvm.MethodName)) ∈ lw_all := lw_g (lw_at lw_m5 82 rfl) rfl
theorem q1206 : (Jvm.Cond.instanceMethod ({ cls := "TallySlate$Reader", name := "attempt", desc := "()LTallySlate$Deed;" } : Jvm.MethodName)) ∈ lw_all := lw_g (lw_at lw_m5 84 rfl) rfl
theorem q1207 : (Jvm.Cond.code ({ cls := "TallySlate$Reader", name := "attempt", desc := "()LTallySlate$Deed;" } : Jvm.MethodName) prog_24_method_19_code (2 : Nat) (Option.some (Jvm.ClassFile.FieldType.object "TallySlate$Deed"))) ∈ lw_all := lw_g (lw_at lw_m5 85 rfl) rfl
theorem q1208 : (Jvm.Cond.classLink "TallySlate$Reader" (247 : Nat) "TallySlate$Try") ∈ lw_all := lw_g (lw_at lw_m5 86 rfl) rfl
theorem q1210 : (Jvm.Cond.methodLinkNest "TallySlate$Reader" (249 : Nat) ({ cls := "TallySlate$Try", name := "<init>", desc := "()V" } : Jvm.MethodName) "TallySlate") ∈ lw_tbl := lw_at lw_m5 88 rfl
theorem q1215 : (Jvm.Cond.fieldLinkNest "TallySlate$Reader" (256 : Nat) "TallySlate$Try" "number" "I" "TallySlate") ∈ lw_tbl := lw_at lw_m5 93 rfl
theorem q1217 : (Jvm.Cond.fieldLinkNest "TallySlate$Reader" (251 : Nat) "TallySlate$Try" "onPlace" "I" "TallySlate") ∈ lw_tbl := lw_at lw_m5 95 rfl
theorem q1219 : (Jvm.Cond.fieldLinkNest "TallySlate$Reader" (250 : Nat) "TallySlate$Try" "body" "LTallySlate$Block;" "TallySlate") ∈ lw_tbl := lw_at lw_m5 97 rfl
theorem q1221 : (Jvm.Cond.fieldLinkNest "TallySlate$Reader" (257 : Nat) "TallySlate$Try" "otherwise" "LTallySlate$Block;" "TallySlate") ∈ lw_tbl := lw_at lw_m5 99 rfl
theorem q1233 : (Jvm.Cond.methodLink "TallySlate$Reader" (187 : Nat) ({ cls := "TallySlate$Reader", name := "alone", desc := "()LTallySlate$Deed;" } : Jvm.MethodName)) ∈ lw_all := lw_g (lw_at lw_m5 111 rfl) rfl
theorem q1235 : (Jvm.Cond.instanceMethod ({ cls := "TallySlate$Reader", name := "alone", desc := "()LTallySlate$Deed;" } : Jvm.MethodName)) ∈ lw_all := lw_g (lw_at lw_m5 113 rfl) rfl
theorem q1236 : (Jvm.Cond.code ({ cls := "TallySlate$Reader", name := "alone", desc := "()LTallySlate$Deed;" } : Jvm.MethodName) prog_24_method_14_code (2 : Nat) (Option.some (Jvm.ClassFile.FieldType.object "TallySlate$Deed"))) ∈ lw_all := lw_g (lw_at lw_m5 114 rfl) rfl
theorem q1237 : (Jvm.Cond.methodLink "TallySlate$Reader" (190 : Nat) ({ cls := "TallySlate$Reader", name := "assign", desc := "()LTallySlate$Deed;" } : Jvm.MethodName)) ∈ lw_all := lw_g (lw_at lw_m5 115 rfl) rfl
theorem q1239 : (Jvm.Cond.instanceMethod ({ cls := "TallySlate$Reader", name := "assign", desc := "()LTallySlate$Deed;" } : Jvm.MethodName)) ∈ lw_all := lw_g (lw_at lw_m5 117 rfl) rfl
theorem q1240 : (Jvm.Cond.code ({ cls := "TallySlate$Reader", name := "assign", desc := "()LTallySlate$Deed;" } : Jvm.MethodName) prog_24_method_20_code (2 : Nat) (Option.some (Jvm.ClassFile.FieldType.object "TallySlate$Deed"))) ∈ lw_all := lw_g (lw_at lw_m5 118 rfl) rfl
theorem q1241 : (Jvm.Cond.classLink "TallySlate$Reader" (258 : Nat) "TallySlate$Assign") ∈ lw_all := lw_g (lw_at lw_m5 119 rfl) rfl
theorem q1243 : (Jvm.Cond.methodLinkNest "TallySlate$Reader" (260 : Nat) ({ cls := "TallySlate$Assign", name := "<init>", desc := "()V" } : Jvm.MethodName) "TallySlate") ∈ lw_tbl := lw_at lw_m5 121 rfl
theorem q1248 : (Jvm.Cond.fieldLinkNest "TallySlate$Reader" (262 : Nat) "TallySlate$Assign" "number" "I" "TallySlate") ∈ lw_tbl := lw_at lw_m5 126 rfl
theorem q1250 : (Jvm.Cond.fieldLinkNest "TallySlate$Reader" (261 : Nat) "TallySlate$Assign" "namePlace" "I" "TallySlate") ∈ lw_tbl := lw_at lw_m5 128 rfl
theorem q1253 : (Jvm.Cond.fieldLinkNest "TallySlate$Reader" (263 : Nat) "TallySlate$Assign" "firstPlace" "I" "TallySlate") ∈ lw_tbl := lw_at lw_m5 131 rfl
theorem q1256 : (Jvm.Cond.fieldLinkNest "TallySlate$Reader" (269 : Nat) "TallySlate$Assign" "secondPlace" "I" "TallySlate") ∈ lw_tbl := lw_at lw_m5 134 rfl
theorem q1258 : (Jvm.Cond.fieldLinkNest "TallySlate$Reader" (266 : Nat) "TallySlate$Assign" "first" "LTallySlate$Node;" "TallySlate") ∈ lw_tbl := lw_at lw_m5 136 rfl
theorem q1261 : (Jvm.Cond.fieldLinkNest "TallySlate$Reader" (272 : Nat) "TallySlate$Assign" "second" "LTallySlate$Node;" "TallySlate") ∈ lw_tbl := lw_at lw_m5 139 rfl
theorem q1264 : (Jvm.Cond.fieldLinkNest "TallySlate$Reader" (275 : Nat) "TallySlate$Assign" "what" "LTallySlate$Node;" "TallySlate") ∈ lw_tbl := lw_at lw_m5 142 rfl
theorem q1281 : (Jvm.Cond.methodLink "TallySlate$Reader" (150 : Nat) ({ cls := "TallySlate$Block", name := "add", desc := "(LTallySlate$Deed;)V" } : Jvm.MethodName)) ∈ lw_all := lw_g (lw_at lw_m5 159 rfl) rfl
theorem q1285 : (Jvm.Cond.methodLink "TallySlate$Reader" (55 : Nat) ({ cls := "TallySlate$Reader", name := "resolve", desc := "(LTallySlate$Call;)V" } : Jvm.MethodName)) ∈ lw_all := lw_g (lw_at lw_m5 163 rfl) rfl
theorem q1287 : (Jvm.Cond.instanceMethod ({ cls := "TallySlate$Reader", name := "resolve", desc := "(LTallySlate$Call;)V" } : Jvm.MethodName)) ∈ lw_all := lw_g (lw_at lw_m5 165 rfl) rfl
theorem q1288 : (Jvm.Cond.code ({ cls := "TallySlate$Reader", name := "resolve", desc := "(LTallySlate$Call;)V" } : Jvm.MethodName) prog_24_method_3_code (3 : Nat) (Option.none : Option Jvm.ClassFile.FieldType)) ∈ lw_all := lw_g (lw_at lw_m5 166 rfl) rfl
theorem q185 : (Jvm.Cond.initialized "TallySlate$Definition") ∈ lw_all := lw_g (lw_at lw_m1 23 rfl) rfl
theorem q775 : (Jvm.Cond.instanceMethod ({ cls := "TallySlate$Definition", name := "<init>", desc := "()V" } : Jvm.MethodName)) ∈ lw_all := lw_g (lw_at lw_m3 133 rfl) rfl
theorem q776 : (Jvm.Cond.code ({ cls := "TallySlate$Definition", name := "<init>", desc := "()V" } : Jvm.MethodName) prog_8_method_1_code (1 : Nat) (Option.none : Option Jvm.ClassFile.FieldType)) ∈ lw_all := lw_g (lw_at lw_m3 134 rfl) rfl
theorem q777 : (Jvm.Cond.methodLink "TallySlate$Definition" (3 : Nat) ({ cls := "java/lang/Object", name := "<init>", desc := "()V" } : Jvm.MethodName)) ∈ lw_all := lw_g (lw_at lw_m3 135 rfl) rfl
theorem q787 : (Jvm.Cond.fieldLink "TallySlate$Definition" (9 : Nat) "TallySlate$Definition" "names" "[J") ∈ lw_all := lw_g (lw_at lw_m3 145 rfl) rfl
theorem q803 : (Jvm.Cond.superclass "TallySlate$Definition" "java/lang/Object") ∈ lw_all := lw_g (lw_at lw_m3 161 rfl) rfl
theorem q186 : (Jvm.Cond.initialized "TallySlate$Block") ∈ lw_all := lw_g (lw_at lw_m1 24 rfl) rfl
theorem q836 : (Jvm.Cond.instanceMethod ({ cls := "TallySlate$Block", name := "<init>", desc := "()V" } : Jvm.MethodName)) ∈ lw_all := lw_g (lw_at lw_m3 194 rfl) rfl
theorem q837 : (Jvm.Cond.code ({ cls := "TallySlate$Block", name := "<init>", desc := "()V" } : Jvm.MethodName) prog_3_method_1_code (1 : Nat) (Option.none : Option Jvm.ClassFile.FieldType)) ∈ lw_all := lw_g (lw_at lw_m3 195 rfl) rfl
theorem q838 : (Jvm.Cond.methodLink "TallySlate$Block" (1 : Nat) ({ cls := "java/lang/Object", name := "<init>", desc := "()V" } : Jvm.MethodName)) ∈ lw_all := lw_g (lw_at lw_m3 196 rfl) rfl
theorem q839 : (Jvm.Cond.classLink "TallySlate$Block" (7 : Nat) "TallySlate$Deed") ∈ lw_all := lw_g (lw_at lw_m3 197 rfl) rfl
theorem q841 : (Jvm.Cond.fieldLink "TallySlate$Block" (9 : Nat) "TallySlate$Block" "a" "[LTallySlate$Deed;") ∈ lw_all := lw_g (lw_at lw_m3 199 rfl) rfl
theorem q842 : (Jvm.Cond.fieldLink "TallySlate$Block" (15 : Nat) "TallySlate$Block" "many" "I") ∈ lw_all := lw_g (lw_at lw_m3 200 rfl) rfl
theorem q847 : (Jvm.Cond.superclass "TallySlate$Block" "java/lang/Object") ∈ lw_all := lw_g (lw_at lw_m3 205 rfl) rfl
theorem q880 : (Jvm.Cond.fieldLink "TallySlate$Block" (19 : Nat) "TallySlate$Deed" "place" "I") ∈ lw_all := lw_g (lw_at lw_m3 238 rfl) rfl
theorem q1282 : (Jvm.Cond.instanceMethod ({ cls := "TallySlate$Block", name := "add", desc := "(LTallySlate$Deed;)V" } : Jvm.MethodName)) ∈ lw_all := lw_g (lw_at lw_m5 160 rfl) rfl
theorem q1283 : (Jvm.Cond.selects "TallySlate$Block" ({ cls := "TallySlate$Block", name := "add", desc := "(LTallySlate$Deed;)V" } : Jvm.MethodName) ({ cls := "TallySlate$Block", name := "add", desc := "(LTallySlate$Deed;)V" } : Jvm.MethodName)) ∈ lw_all := lw_g (lw_at lw_m5 161 rfl) rfl
theorem q1284 : (Jvm.Cond.code ({ cls := "TallySlate$Block", name := "add", desc := "(LTallySlate$Deed;)V" } : Jvm.MethodName) prog_3_method_2_code (4 : Nat) (Option.none : Option Jvm.ClassFile.FieldType)) ∈ lw_all := lw_g (lw_at lw_m5 162 rfl) rfl
theorem q1328 : (Jvm.Cond.instanceMethod ({ cls := "TallySlate$Block", name := "act", desc := "(LTallySlate$Machine;)Z" } : Jvm.MethodName)) ∈ lw_all := lw_g (lw_at lw_m5 206 rfl) rfl
theorem q1329 : (Jvm.Cond.selects "TallySlate$Block" ({ cls := "TallySlate$Block", name := "act", desc := "(LTallySlate$Machine;)Z" } : Jvm.MethodName) ({ cls := "TallySlate$Block", name := "act", desc := "(LTallySlate$Machine;)Z" } : Jvm.MethodName)) ∈ lw_all := lw_g (lw_at lw_m5 207 rfl) rfl
theorem q1330 : (Jvm.Cond.code ({ cls := "TallySlate$Block", name := "act", desc := "(LTallySlate$Machine;)Z" } : Jvm.MethodName) prog_3_method_3_code (3 : Nat) (Option.some Jvm.ClassFile.FieldType.boolean)) ∈ lw_all := lw_g (lw_at lw_m5 208 rfl) rfl
theorem q1331 : (Jvm.Cond.methodLink "TallySlate$Block" (22 : Nat) ({ cls := "TallySlate$Machine", name := "step", desc := "(I)V" } : Jvm.MethodName)) ∈ lw_all := lw_g (lw_at lw_m5 209 rfl) rfl
theorem q1335 : (Jvm.Cond.methodLink "TallySlate$Block" (28 : Nat) ({ cls := "TallySlate$Deed", name := "act", desc := "(LTallySlate$Machine;)Z" } : Jvm.MethodName)) ∈ lw_all := lw_g (lw_at lw_m5 213 rfl) rfl
theorem q187 : (Jvm.Cond.initialized "TallySlate$Deed") ∈ lw_all := lw_g (lw_at lw_m1 25 rfl) rfl
theorem q863 : (Jvm.Cond.instanceMethod ({ cls := "TallySlate$Deed", name := "<init>", desc := "()V" } : Jvm.MethodName)) ∈ lw_all := lw_g (lw_at lw_m3 221 rfl) rfl
theorem q864 : (Jvm.Cond.code ({ cls := "TallySlate$Deed", name := "<init>", desc := "()V" } : Jvm.MethodName) prog_7_method_1_code (1 : Nat) (Option.none : Option Jvm.ClassFile.FieldType)) ∈ lw_all := lw_g (lw_at lw_m3 222 rfl) rfl
theorem q865 : (Jvm.Cond.methodLink "TallySlate$Deed" (1 : Nat) ({ cls := "java/lang/Object", name := "<init>", desc := "()V" } : Jvm.MethodName)) ∈ lw_all := lw_g (lw_at lw_m3 223 rfl) rfl
theorem q1336 : (Jvm.Cond.declares ({ cls := "TallySlate$Deed", name := "act", desc := "(LTallySlate$Machine;)Z" } : Jvm.MethodName)) ∈ lw_tbl := lw_at lw_m5 214 rfl
theorem q188 : (Jvm.Cond.initialized "TallySlate$If") ∈ lw_all := lw_g (lw_at lw_m1 26 rfl) rfl
theorem q860 : (Jvm.Cond.instanceMethod ({ cls := "TallySlate$If", name := "<init>", desc := "()V" } : Jvm.MethodName)) ∈ lw_all := lw_g (lw_at lw_m3 218 rfl) rfl
theorem q861 : (Jvm.Cond.code ({ cls := "TallySlate$If", name := "<init>", desc := "()V" } : Jvm.MethodName) prog_11_method_1_code (1 : Nat) (Option.none : Option Jvm.ClassFile.FieldType)) ∈ lw_all := lw_g (lw_at lw_m3 219 rfl) rfl
theorem q862 : (Jvm.Cond.methodLinkNest "TallySlate$If" (1 : Nat) ({ cls := "TallySlate$Deed", name := "<init>", desc := "()V" } : Jvm.MethodName) "TallySlate") ∈ lw_tbl := lw_at lw_m3 220 rfl
theorem q866 : (Jvm.Cond.fieldLink "TallySlate$If" (7 : Nat) "TallySlate$If" "test" "LTallySlate$Node;") ∈ lw_all := lw_g (lw_at lw_m3 224 rfl) rfl
theorem q868 : (Jvm.Cond.fieldLink "TallySlate$If" (29 : Nat) "TallySlate$If" "then" "LTallySlate$Block;") ∈ lw_all := lw_g (lw_at lw_m3 226 rfl) rfl
theorem q870 : (Jvm.Cond.fieldLink "TallySlate$If" (39 : Nat) "TallySlate$If" "otherwise" "LTallySlate$Block;") ∈ lw_all := lw_g (lw_at lw_m3 228 rfl) rfl
theorem q876 : (Jvm.Cond.fieldLink "TallySlate$If" (19 : Nat) "TallySlate$If" "place" "I") ∈ lw_all := lw_g (lw_at lw_m3 234 rfl) rfl
theorem q877 : (Jvm.Cond.sameField "TallySlate$If" "TallySlate$Deed" "place" "I") ∈ lw_all := lw_g (lw_at lw_m3 235 rfl) rfl
theorem q890 : (Jvm.Cond.superclass "TallySlate$If" "TallySlate$Deed") ∈ lw_all := lw_g (lw_at lw_m4 8 rfl) rfl
theorem q1976 : (Jvm.Cond.selects "TallySlate$If" ({ cls := "TallySlate$Deed", name := "act", desc := "(LTallySlate$Machine;)Z" } : Jvm.MethodName) ({ cls := "TallySlate$If", name := "act", desc := "(LTallySlate$Machine;)Z" } : Jvm.MethodName)) ∈ lw_all := lw_g (lw_at lw_m8 134 rfl) rfl
theorem q1977 : (Jvm.Cond.instanceMethod ({ cls := "TallySlate$If", name := "act", desc := "(LTallySlate$Machine;)Z" } : Jvm.MethodName)) ∈ lw_all := lw_g (lw_at lw_m8 135 rfl) rfl
theorem q1978 : (Jvm.Cond.code ({ cls := "TallySlate$If", name := "act", desc := "(LTallySlate$Machine;)Z" } : Jvm.MethodName) prog_11_method_2_code (2 : Nat) (Option.some Jvm.ClassFile.FieldType.boolean)) ∈ lw_all := lw_g (lw_at lw_m8 136 rfl) rfl
theorem q1979 : (Jvm.Cond.methodLink "TallySlate$If" (13 : Nat) ({ cls := "TallySlate$Node", name := "work", desc := "(LTallySlate$Machine;)V" } : Jvm.MethodName)) ∈ lw_all := lw_g (lw_at lw_m8 137 rfl) rfl
theorem q1980 : (Jvm.Cond.methodLink "TallySlate$If" (23 : Nat) ({ cls := "TallySlate$Machine", name := "isTrue", desc := "(I)Z" } : Jvm.MethodName)) ∈ lw_all := lw_g (lw_at lw_m8 138 rfl) rfl
theorem q1985 : (Jvm.Cond.methodLink "TallySlate$If" (33 : Nat) ({ cls := "TallySlate$Block", name := "act", desc := "(LTallySlate$Machine;)Z" } : Jvm.MethodName)) ∈ lw_all := lw_g (lw_at lw_m8 143 rfl) rfl
theorem q3040 : (Jvm.Cond.castable "TallySlate$If" "TallySlate$Deed") ∈ lw_tbl := lw_at lw_m12 238 rfl
theorem q189 : (Jvm.Cond.initialized "TallySlate$Node") ∈ lw_all := lw_g (lw_at lw_m1 27 rfl) rfl
theorem q917 : (Jvm.Cond.instanceMethod ({ cls := "TallySlate$Node", name := "<init>", desc := "()V" } : Jvm.MethodName)) ∈ lw_all := lw_g (lw_at lw_m4 35 rfl) rfl
theorem q918 : (Jvm.Cond.code ({ cls := "TallySlate$Node", name := "<init>", desc := "()V" } : Jvm.MethodName) prog_16_method_1_code (1 : Nat) (Option.none : Option Jvm.ClassFile.FieldType)) ∈ lw_all := lw_g (lw_at lw_m4 36 rfl) rfl
theorem q919 : (Jvm.Cond.methodLink "TallySlate$Node" (1 : Nat) ({ cls := "java/lang/Object", name := "<init>", desc := "()V" } : Jvm.MethodName)) ∈ lw_all := lw_g (lw_at lw_m4 37 rfl) rfl
theorem q1342 : (Jvm.Cond.declares ({ cls := "TallySlate$Node", name := "work", desc := "(LTallySlate$Machine;)V" } : Jvm.MethodName)) ∈ lw_tbl := lw_at lw_m5 220 rfl
theorem q190 : (Jvm.Cond.initialized "TallySlate$Numeral") ∈ lw_all := lw_g (lw_at lw_m1 28 rfl) rfl
theorem q914 : (Jvm.Cond.instanceMethod ({ cls := "TallySlate$Numeral", name := "<init>", desc := "(I)V" } : Jvm.MethodName)) ∈ lw_all := lw_g (lw_at lw_m4 32 rfl) rfl
theorem q915 : (Jvm.Cond.code ({ cls := "TallySlate$Numeral", name := "<init>", desc := "(I)V" } : Jvm.MethodName) prog_18_method_1_code (2 : Nat) (Option.none : Option Jvm.ClassFile.FieldType)) ∈ lw_all := lw_g (lw_at lw_m4 33 rfl) rfl
theorem q916 : (Jvm.Cond.methodLinkNest "TallySlate$Numeral" (1 : Nat) ({ cls := "TallySlate$Node", name := "<init>", desc := "()V" } : Jvm.MethodName) "TallySlate") ∈ lw_tbl := lw_at lw_m4 34 rfl
theorem q920 : (Jvm.Cond.fieldLink "TallySlate$Numeral" (7 : Nat) "TallySlate$Numeral" "v" "I") ∈ lw_all := lw_g (lw_at lw_m4 38 rfl) rfl
theorem q939 : (Jvm.Cond.superclass "TallySlate$Numeral" "TallySlate$Node") ∈ lw_all := lw_g (lw_at lw_m4 57 rfl) rfl
theorem q1367 : (Jvm.Cond.instanceMethod ({ cls := "TallySlate$Numeral", name := "work", desc := "(LTallySlate$Machine;)V" } : Jvm.MethodName)) ∈ lw_all := lw_g (lw_at lw_m6 5 rfl) rfl
theorem q1368 : (Jvm.Cond.code ({ cls := "TallySlate$Numeral", name := "work", desc := "(LTallySlate$Machine;)V" } : Jvm.MethodName) prog_18_method_2_code (2 : Nat) (Option.none : Option Jvm.ClassFile.FieldType)) ∈ lw_all := lw_g (lw_at lw_m6 6 rfl) rfl
theorem q1369 : (Jvm.Cond.methodLink "TallySlate$Numeral" (13 : Nat) ({ cls := "TallySlate$Machine", name := "push", desc := "(I)V" } : Jvm.MethodName)) ∈ lw_all := lw_g (lw_at lw_m6 7 rfl) rfl
theorem q1931 : (Jvm.Cond.selects "TallySlate$Numeral" ({ cls := "TallySlate$Node", name := "work", desc := "(LTallySlate$Machine;)V" } : Jvm.MethodName) ({ cls := "TallySlate$Numeral", name := "work", desc := "(LTallySlate$Machine;)V" } : Jvm.MethodName)) ∈ lw_all := lw_g (lw_at lw_m8 89 rfl) rfl
theorem q3049 : (Jvm.Cond.castable "TallySlate$Numeral" "TallySlate$Node") ∈ lw_tbl := lw_at lw_m13 7 rfl
theorem q191 : (Jvm.Cond.initialized "TallySlate$Literal") ∈ lw_all := lw_g (lw_at lw_m1 29 rfl) rfl
theorem q925 : (Jvm.Cond.fieldLink "TallySlate$Literal" (28 : Nat) "TallySlate$Literal" "place" "I") ∈ lw_all := lw_g (lw_at lw_m4 43 rfl) rfl
theorem q926 : (Jvm.Cond.sameField "TallySlate$Literal" "TallySlate$Node" "place" "I") ∈ lw_all := lw_g (lw_at lw_m4 44 rfl) rfl
theorem q947 : (Jvm.Cond.instanceMethod ({ cls := "TallySlate$Literal", name := "<init>", desc := "()V" } : Jvm.MethodName)) ∈ lw_all := lw_g (lw_at lw_m4 65 rfl) rfl
theorem q948 : (Jvm.Cond.code ({ cls := "TallySlate$Literal", name := "<init>", desc := "()V" } : Jvm.MethodName) prog_12_method_1_code (1 : Nat) (Option.none : Option Jvm.ClassFile.FieldType)) ∈ lw_all := lw_g (lw_at lw_m4 66 rfl) rfl
theorem q949 : (Jvm.Cond.methodLinkNest "TallySlate$Literal" (1 : Nat) ({ cls := "TallySlate$Node", name := "<init>", desc := "()V" } : Jvm.MethodName) "TallySlate") ∈ lw_tbl := lw_at lw_m4 67 rfl
theorem q950 : (Jvm.Cond.classLink "TallySlate$Literal" (7 : Nat) "TallySlate$Nodes") ∈ lw_all := lw_g (lw_at lw_m4 68 rfl) rfl
theorem q952 : (Jvm.Cond.methodLinkNest "TallySlate$Literal" (9 : Nat) ({ cls := "TallySlate$Nodes", name := "<init>", desc := "()V" } : Jvm.MethodName) "TallySlate") ∈ lw_tbl := lw_at lw_m4 70 rfl
theorem q963 : (Jvm.Cond.fieldLinkNest "TallySlate$Literal" (20 : Nat) "TallySlate$Nodes" "a" "[LTallySlate$Node;" "TallySlate") ∈ lw_tbl := lw_at lw_m4 81 rfl
theorem q972 : (Jvm.Cond.fieldLinkNest "TallySlate$Literal" (16 : Nat) "TallySlate$Nodes" "many" "I" "TallySlate") ∈ lw_tbl := lw_at lw_m4 90 rfl
theorem q985 : (Jvm.Cond.fieldLink "TallySlate$Literal" (10 : Nat) "TallySlate$Literal" "parts" "LTallySlate$Nodes;") ∈ lw_all := lw_g (lw_at lw_m4 103 rfl) rfl
theorem q990 : (Jvm.Cond.superclass "TallySlate$Literal" "TallySlate$Node") ∈ lw_all := lw_g (lw_at lw_m4 108 rfl) rfl
theorem q1354 : (Jvm.Cond.instanceMethod ({ cls := "TallySlate$Literal", name := "work", desc := "(LTallySlate$Machine;)V" } : Jvm.MethodName)) ∈ lw_all := lw_g (lw_at lw_m5 232 rfl) rfl
theorem q1355 : (Jvm.Cond.code ({ cls := "TallySlate$Literal", name := "work", desc := "(LTallySlate$Machine;)V" } : Jvm.MethodName) prog_12_method_2_code (3 : Nat) (Option.none : Option Jvm.ClassFile.FieldType)) ∈ lw_all := lw_g (lw_at lw_m5 233 rfl) rfl
theorem q1356 : (Jvm.Cond.methodLink "TallySlate$Literal" (24 : Nat) ({ cls := "TallySlate$Node", name := "work", desc := "(LTallySlate$Machine;)V" } : Jvm.MethodName)) ∈ lw_all := lw_g (lw_at lw_m5 234 rfl) rfl
theorem q1604 : (Jvm.Cond.methodLink "TallySlate$Literal" (31 : Nat) ({ cls := "TallySlate$Machine", name := "step", desc := "(I)V" } : Jvm.MethodName)) ∈ lw_all := lw_g (lw_at lw_m7 2 rfl) rfl
theorem q1605 : (Jvm.Cond.methodLink "TallySlate$Literal" (37 : Nat) ({ cls := "TallySlate$Machine", name := "literal", desc := "(II)V" } : Jvm.MethodName)) ∈ lw_all := lw_g (lw_at lw_m7 3 rfl) rfl
theorem q1929 : (Jvm.Cond.selects "TallySlate$Literal" ({ cls := "TallySlate$Node", name := "work", desc := "(LTallySlate$Machine;)V" } : Jvm.MethodName) ({ cls := "TallySlate$Literal", name := "work", desc := "(LTallySlate$Machine;)V" } : Jvm.MethodName)) ∈ lw_all := lw_g (lw_at lw_m8 87 rfl) rfl
theorem q3047 : (Jvm.Cond.castable "TallySlate$Literal" "TallySlate$Node") ∈ lw_tbl := lw_at lw_m13 5 rfl
theorem q192 : (Jvm.Cond.initialized "TallySlate$Nodes") ∈ lw_all := lw_g (lw_at lw_m1 30 rfl) rfl
theorem q953 : (Jvm.Cond.instanceMethod ({ cls := "TallySlate$Nodes", name := "<init>", desc := "()V" } : Jvm.MethodName)) ∈ lw_all := lw_g (lw_at lw_m4 71 rfl) rfl
theorem q954 : (Jvm.Cond.code ({ cls := "TallySlate$Nodes", name := "<init>", desc := "()V" } : Jvm.MethodName) prog_17_method_1_code (1 : Nat) (Option.none : Option Jvm.ClassFile.FieldType)) ∈ lw_all := lw_g (lw_at lw_m4 72 rfl) rfl
theorem q955 : (Jvm.Cond.methodLink "TallySlate$Nodes" (1 : Nat) ({ cls := "java/lang/Object", name := "<init>", desc := "()V" } : Jvm.MethodName)) ∈ lw_all := lw_g (lw_at lw_m4 73 rfl) rfl
theorem q956 : (Jvm.Cond.classLink "TallySlate$Nodes" (7 : Nat) "TallySlate$Node") ∈ lw_all := lw_g (lw_at lw_m4 74 rfl) rfl
theorem q958 : (Jvm.Cond.fieldLink "TallySlate$Nodes" (9 : Nat) "TallySlate$Nodes" "a" "[LTallySlate$Node;") ∈ lw_all := lw_g (lw_at lw_m4 76 rfl) rfl
theorem q964 : (Jvm.Cond.fieldLink "TallySlate$Nodes" (15 : Nat) "TallySlate$Nodes" "signs" "[I") ∈ lw_all := lw_g (lw_at lw_m4 82 rfl) rfl
theorem q966 : (Jvm.Cond.fieldLink "TallySlate$Nodes" (19 : Nat) "TallySlate$Nodes" "places" "[I") ∈ lw_all := lw_g (lw_at lw_m4 84 rfl) rfl
theorem q969 : (Jvm.Cond.fieldLink "TallySlate$Nodes" (22 : Nat) "TallySlate$Nodes" "many" "I") ∈ lw_all := lw_g (lw_at lw_m4 87 rfl) rfl
theorem q984 : (Jvm.Cond.superclass "TallySlate$Nodes" "java/lang/Object") ∈ lw_all := lw_g (lw_at lw_m4 102 rfl) rfl
theorem q992 : (Jvm.Cond.instanceMethod ({ cls := "TallySlate$Nodes", name := "add", desc := "(LTallySlate$Node;II)V" } : Jvm.MethodName)) ∈ lw_all := lw_g (lw_at lw_m4 110 rfl) rfl
theorem q993 : (Jvm.Cond.selects "TallySlate$Nodes" ({ cls := "TallySlate$Nodes", name := "add", desc := "(LTallySlate$Node;II)V" } : Jvm.MethodName) ({ cls := "TallySlate$Nodes", name := "add", desc := "(LTallySlate$Node;II)V" } : Jvm.MethodName)) ∈ lw_all := lw_g (lw_at lw_m4 111 rfl) rfl
theorem q994 : (Jvm.Cond.code ({ cls := "TallySlate$Nodes", name := "add", desc := "(LTallySlate$Node;II)V" } : Jvm.MethodName) prog_17_method_2_code (4 : Nat) (Option.none : Option Jvm.ClassFile.FieldType)) ∈ lw_all := lw_g (lw_at lw_m4 112 rfl) rfl
theorem q995 : (Jvm.Cond.methodLink "TallySlate$Nodes" (26 : Nat) ({ cls := "TallySlate$Nodes", name := "grow", desc := "()V" } : Jvm.MethodName)) ∈ lw_all := lw_g (lw_at lw_m4 113 rfl) rfl
theorem q997 : (Jvm.Cond.instanceMethod ({ cls := "TallySlate$Nodes", name := "grow", desc := "()V" } : Jvm.MethodName)) ∈ lw_all := lw_g (lw_at lw_m4 115 rfl) rfl
theorem q998 : (Jvm.Cond.code ({ cls := "TallySlate$Nodes", name := "grow", desc := "()V" } : Jvm.MethodName) prog_17_method_3_code (5 : Nat) (Option.none : Option Jvm.ClassFile.FieldType)) ∈ lw_all := lw_g (lw_at lw_m4 116 rfl) rfl
theorem q168 : (Jvm.Cond.initialized "TallySlate$Scanner") ∈ lw_all := lw_g (lw_at lw_m1 6 rfl) rfl
theorem q274 : (Jvm.Cond.fieldLinkNest "TallySlate$Scanner" (19 : Nat) "TallySlate$Fault" "kind" "I" "TallySlate") ∈ lw_tbl := lw_at lw_m1 112 rfl
theorem q276 : (Jvm.Cond.fieldLinkNest "TallySlate$Scanner" (25 : Nat) "TallySlate$Fault" "place" "I" "TallySlate") ∈ lw_tbl := lw_at lw_m1 114 rfl
theorem q299 : (Jvm.Cond.instanceMethod ({ cls := "TallySlate$Scanner", name := "<init>", desc := "(LTallySlate$Fault;)V" } : Jvm.MethodName)) ∈ lw_all := lw_g (lw_at lw_m1 137 rfl) rfl
theorem q300 : (Jvm.Cond.code ({ cls := "TallySlate$Scanner", name := "<init>", desc := "(LTallySlate$Fault;)V" } : Jvm.MethodName) prog_26_method_1_code (2 : Nat) (Option.none : Option Jvm.ClassFile.FieldType)) ∈ lw_all := lw_g (lw_at lw_m1 138 rfl) rfl
theorem q301 : (Jvm.Cond.methodLink "TallySlate$Scanner" (3 : Nat) ({ cls := "java/lang/Object", name := "<init>", desc := "()V" } : Jvm.MethodName)) ∈ lw_all := lw_g (lw_at lw_m1 139 rfl) rfl
theorem q302 : (Jvm.Cond.fieldLink "TallySlate$Scanner" (15 : Nat) "TallySlate$Scanner" "fault" "LTallySlate$Fault;") ∈ lw_all := lw_g (lw_at lw_m1 140 rfl) rfl
theorem q303 : (Jvm.Cond.fieldLink "TallySlate$Scanner" (9 : Nat) "TallySlate$Scanner" "text" "[B") ∈ lw_all := lw_g (lw_at lw_m1 141 rfl) rfl
theorem q304 : (Jvm.Cond.fieldLink "TallySlate$Scanner" (34 : Nat) "TallySlate$Scanner" "size" "I") ∈ lw_all := lw_g (lw_at lw_m1 142 rfl) rfl
theorem q305 : (Jvm.Cond.fieldLink "TallySlate$Scanner" (37 : Nat) "TallySlate$Scanner" "at" "I") ∈ lw_all := lw_g (lw_at lw_m1 143 rfl) rfl
theorem q307 : (Jvm.Cond.fieldLink "TallySlate$Scanner" (48 : Nat) "TallySlate$Scanner" "token" "I") ∈ lw_all := lw_g (lw_at lw_m1 145 rfl) rfl
theorem q309 : (Jvm.Cond.fieldLink "TallySlate$Scanner" (47 : Nat) "TallySlate$Scanner" "place" "I") ∈ lw_all := lw_g (lw_at lw_m1 147 rfl) rfl
theorem q310 : (Jvm.Cond.fieldLink "TallySlate$Scanner" (78 : Nat) "TallySlate$Scanner" "value" "I") ∈ lw_all := lw_g (lw_at lw_m1 148 rfl) rfl
theorem q312 : (Jvm.Cond.fieldLink "TallySlate$Scanner" (40 : Nat) "TallySlate$Scanner" "open" "I") ∈ lw_all := lw_g (lw_at lw_m1 150 rfl) rfl
theorem q329 : (Jvm.Cond.superclass "TallySlate$Scanner" "java/lang/Object") ∈ lw_all := lw_g (lw_at lw_m1 167 rfl) rfl
theorem q564 : (Jvm.Cond.instanceMethod ({ cls := "TallySlate$Scanner", name := "wrong", desc := "(II)LTallySlate$Fault;" } : Jvm.MethodName)) ∈ lw_all := lw_g (lw_at lw_m2 162 rfl) rfl
theorem q565 : (Jvm.Cond.selects "TallySlate$Scanner" ({ cls := "TallySlate$Scanner", name := "wrong", desc := "(II)LTallySlate$Fault;" } : Jvm.MethodName) ({ cls := "TallySlate$Scanner", name := "wrong", desc := "(II)LTallySlate$Fault;" } : Jvm.MethodName)) ∈ lw_all := lw_g (lw_at lw_m2 163 rfl) rfl
theorem q566 : (Jvm.Cond.code ({ cls := "TallySlate$Scanner", name := "wrong", desc := "(II)LTallySlate$Fault;" } : Jvm.MethodName) prog_26_method_2_code (3 : Nat) (Option.some (Jvm.ClassFile.FieldType.object "TallySlate$Fault"))) ∈ lw_all := lw_g (lw_at lw_m2 164 rfl) rfl
theorem q568 : (Jvm.Cond.instanceMethod ({ cls := "TallySlate$Scanner", name := "begin", desc := "([BI)V" } : Jvm.MethodName)) ∈ lw_all := lw_g (lw_at lw_m2 166 rfl) rfl
theorem q569 : (Jvm.Cond.selects "TallySlate$Scanner" ({ cls := "TallySlate$Scanner", name := "begin", desc := "([BI)V" } : Jvm.MethodName) ({ cls := "TallySlate$Scanner", name := "begin", desc := "([BI)V" } : Jvm.MethodName)) ∈ lw_all := lw_g (lw_at lw_m2 167 rfl) rfl
theorem q570 : (Jvm.Cond.code ({ cls := "TallySlate$Scanner", name := "begin", desc := "([BI)V" } : Jvm.MethodName) prog_26_method_3_code (3 : Nat) (Option.none : Option Jvm.ClassFile.FieldType)) ∈ lw_all := lw_g (lw_at lw_m2 168 rfl) rfl
theorem q571 : (Jvm.Cond.methodLink "TallySlate$Scanner" (28 : Nat) ({ cls := "java/lang/System", name := "arraycopy", desc := "(Ljava/lang/Object;ILjava/lang/Object;II)V" } : Jvm.MethodName)) ∈ lw_all := lw_g (lw_at lw_m2 169 rfl) rfl
theorem q610 : (Jvm.Cond.instanceMethod ({ cls := "TallySlate$Scanner", name := "next", desc := "()V" } : Jvm.MethodName)) ∈ lw_all := lw_g (lw_at lw_m2 208 rfl) rfl
theorem q611 : (Jvm.Cond.selects "TallySlate$Scanner" ({ cls := "TallySlate$Scanner", name := "next", desc := "()V" } : Jvm.MethodName) ({ cls := "TallySlate$Scanner", name := "next", desc := "()V" } : Jvm.MethodName)) ∈ lw_all := lw_g (lw_at lw_m2 209 rfl) rfl
theorem q612 : (Jvm.Cond.code ({ cls := "TallySlate$Scanner", name := "next", desc := "()V" } : Jvm.MethodName) prog_26_method_7_code (2 : Nat) (Option.none : Option Jvm.ClassFile.FieldType)) ∈ lw_all := lw_g (lw_at lw_m2 210 rfl) rfl
theorem q613 : (Jvm.Cond.methodLink "TallySlate$Scanner" (43 : Nat) ({ cls := "TallySlate$Scanner", name := "look", desc := "(I)I" } : Jvm.MethodName)) ∈ lw_all := lw_g (lw_at lw_m2 211 rfl) rfl
theorem q615 : (Jvm.Cond.instanceMethod ({ cls := "TallySlate$Scanner", name := "look", desc := "(I)I" } : Jvm.MethodName)) ∈ lw_all := lw_g (lw_at lw_m2 213 rfl) rfl
theorem q616 : (Jvm.Cond.code ({ cls := "TallySlate$Scanner", name := "look", desc := "(I)I" } : Jvm.MethodName) prog_26_method_4_code (2 : Nat) (Option.some Jvm.ClassFile.FieldType.int)) ∈ lw_all := lw_g (lw_at lw_m2 214 rfl) rfl
theorem q617 : (Jvm.Cond.methodLink "TallySlate$Scanner" (51 : Nat) ({ cls := "TallySlate$Scanner", name := "isLetter", desc := "(I)Z" } : Jvm.MethodName)) ∈ lw_all := lw_g (lw_at lw_m2 215 rfl) rfl
theorem q618 : (Jvm.Cond.static ({ cls := "TallySlate$Scanner", name := "isLetter", desc := "(I)Z" } : Jvm.MethodName)) ∈ lw_all := lw_g (lw_at lw_m2 216 rfl) rfl
theorem q619 : (Jvm.Cond.code ({ cls := "TallySlate$Scanner", name := "isLetter", desc := "(I)Z" } : Jvm.MethodName) prog_26_method_5_code (1 : Nat) (Option.some Jvm.ClassFile.FieldType.boolean)) ∈ lw_all := lw_g (lw_at lw_m2 217 rfl) rfl
theorem q620 : (Jvm.Cond.methodLink "TallySlate$Scanner" (55 : Nat) ({ cls := "TallySlate$Scanner", name := "word", desc := "()V" } : Jvm.MethodName)) ∈ lw_all := lw_g (lw_at lw_m2 218 rfl) rfl
theorem q622 : (Jvm.Cond.instanceMethod ({ cls := "TallySlate$Scanner", name := "word", desc := "()V" } : Jvm.MethodName)) ∈ lw_all := lw_g (lw_at lw_m2 220 rfl) rfl
theorem q623 : (Jvm.Cond.code ({ cls := "TallySlate$Scanner", name := "word", desc := "()V" } : Jvm.MethodName) prog_26_method_8_code (1 : Nat) (Option.none : Option Jvm.ClassFile.FieldType)) ∈ lw_all := lw_g (lw_at lw_m2 221 rfl) rfl
theorem q624 : (Jvm.Cond.methodLink "TallySlate$Scanner" (68 : Nat) ({ cls := "TallySlate$Scanner", name := "wrong", desc := "(II)LTallySlate$Fault;" } : Jvm.MethodName)) ∈ lw_all := lw_g (lw_at lw_m2 222 rfl) rfl
theorem q625 : (Jvm.Cond.methodLink "TallySlate$Scanner" (58 : Nat) ({ cls := "TallySlate$Scanner", name := "isDigit", desc := "(I)Z" } : Jvm.MethodName)) ∈ lw_all := lw_g (lw_at lw_m2 223 rfl) rfl
theorem q626 : (Jvm.Cond.static ({ cls := "TallySlate$Scanner", name := "isDigit", desc := "(I)Z" } : Jvm.MethodName)) ∈ lw_all := lw_g (lw_at lw_m2 224 rfl) rfl
theorem q627 : (Jvm.Cond.code ({ cls := "TallySlate$Scanner", name := "isDigit", desc := "(I)Z" } : Jvm.MethodName) prog_26_method_6_code (1 : Nat) (Option.some Jvm.ClassFile.FieldType.boolean)) ∈ lw_all := lw_g (lw_at lw_m2 225 rfl) rfl
theorem q628 : (Jvm.Cond.methodLink "TallySlate$Scanner" (61 : Nat) ({ cls := "TallySlate$Scanner", name := "number", desc := "()V" } : Jvm.MethodName)) ∈ lw_all := lw_g (lw_at lw_m2 226 rfl) rfl
theorem q630 : (Jvm.Cond.instanceMethod ({ cls := "TallySlate$Scanner", name := "number", desc := "()V" } : Jvm.MethodName)) ∈ lw_all := lw_g (lw_at lw_m2 228 rfl) rfl
theorem q631 : (Jvm.Cond.code ({ cls := "TallySlate$Scanner", name := "number", desc := "()V" } : Jvm.MethodName) prog_26_method_9_code (3 : Nat) (Option.none : Option Jvm.ClassFile.FieldType)) ∈ lw_all := lw_g (lw_at lw_m2 229 rfl) rfl
theorem q632 : (Jvm.Cond.constantLong "TallySlate$Scanner" (72 : Nat) (10 : Int64)) ∈ lw_all := lw_g (lw_at lw_m2 230 rfl) rfl
theorem q633 : (Jvm.Cond.constantLong "TallySlate$Scanner" (74 : Nat) (48 : Int64)) ∈ lw_all := lw_g (lw_at lw_m2 231 rfl) rfl
theorem q634 : (Jvm.Cond.constantLong "TallySlate$Scanner" (76 : Nat) (2147483647 : Int64)) ∈ lw_all := lw_g (lw_at lw_m2 232 rfl) rfl
theorem q635 : (Jvm.Cond.methodLink "TallySlate$Scanner" (64 : Nat) ({ cls := "TallySlate$Scanner", name := "sign", desc := "(I)V" } : Jvm.MethodName)) ∈ lw_all := lw_g (lw_at lw_m2 233 rfl) rfl
theorem q637 : (Jvm.Cond.instanceMethod ({ cls := "TallySlate$Scanner", name := "sign", desc := "(I)V" } : Jvm.MethodName)) ∈ lw_all := lw_g (lw_at lw_m2 235 rfl) rfl
theorem q638 : (Jvm.Cond.code ({ cls := "TallySlate$Scanner", name := "sign", desc := "(I)V" } : Jvm.MethodName) prog_26_method_10_code (3 : Nat) (Option.none : Option Jvm.ClassFile.FieldType)) ∈ lw_all := lw_g (lw_at lw_m2 236 rfl) rfl
theorem q640 : (Jvm.Cond.methodLink "TallySlate$Scanner" (83 : Nat) ({ cls := "java/lang/String", name := "indexOf", desc := "(I)I" } : Jvm.MethodName)) ∈ lw_all := lw_g (lw_at lw_m2 238 rfl) rfl
theorem q728 : (Jvm.Cond.instanceMethod ({ cls := "TallySlate$Scanner", name := "isWord", desc := "(Ljava/lang/String;)Z" } : Jvm.MethodName)) ∈ lw_all := lw_g (lw_at lw_m3 86 rfl) rfl
theorem q729 : (Jvm.Cond.selects "TallySlate$Scanner" ({ cls := "TallySlate$Scanner", name := "isWord", desc := "(Ljava/lang/String;)Z" } : Jvm.MethodName) ({ cls := "TallySlate$Scanner", name := "isWord", desc := "(Ljava/lang/String;)Z" } : Jvm.MethodName)) ∈ lw_all := lw_g (lw_at lw_m3 87 rfl) rfl
theorem q730 : (Jvm.Cond.code ({ cls := "TallySlate$Scanner", name := "isWord", desc := "(Ljava/lang/String;)Z" } : Jvm.MethodName) prog_26_method_12_code (3 : Nat) (Option.some Jvm.ClassFile.FieldType.boolean)) ∈ lw_all := lw_g (lw_at lw_m3 88 rfl) rfl
theorem q731 : (Jvm.Cond.methodLink "TallySlate$Scanner" (88 : Nat) ({ cls := "java/lang/String", name := "length", desc := "()I" } : Jvm.MethodName)) ∈ lw_all := lw_g (lw_at lw_m3 89 rfl) rfl
theorem q732 : (Jvm.Cond.methodLink "TallySlate$Scanner" (92 : Nat) ({ cls := "java/lang/String", name := "charAt", desc := "(I)C" } : Jvm.MethodName)) ∈ lw_all := lw_g (lw_at lw_m3 90 rfl) rfl
theorem q806 : (Jvm.Cond.instanceMethod ({ cls := "TallySlate$Scanner", name := "name", desc := "()J" } : Jvm.MethodName)) ∈ lw_all := lw_g (lw_at lw_m3 164 rfl) rfl
theorem q807 : (Jvm.Cond.selects "TallySlate$Scanner" ({ cls := "TallySlate$Scanner", name := "name", desc := "()J" } : Jvm.MethodName) ({ cls := "TallySlate$Scanner", name := "name", desc := "()J" } : Jvm.MethodName)) ∈ lw_all := lw_g (lw_at lw_m3 165 rfl) rfl
theorem q808 : (Jvm.Cond.code ({ cls := "TallySlate$Scanner", name := "name", desc := "()J" } : Jvm.MethodName) prog_26_method_14_code (4 : Nat) (Option.some Jvm.ClassFile.FieldType.long)) ∈ lw_all := lw_g (lw_at lw_m3 166 rfl) rfl
theorem q809 : (Jvm.Cond.constantLong "TallySlate$Scanner" (96 : Nat) (32 : Int64)) ∈ lw_all := lw_g (lw_at lw_m3 167 rfl) rfl
theorem q810 : (Jvm.Cond.constantLong "TallySlate$Scanner" (98 : Nat) (96 : Int64)) ∈ lw_all := lw_g (lw_at lw_m3 168 rfl) rfl
theorem q816 : (Jvm.Cond.instanceMethod ({ cls := "TallySlate$Scanner", name := "take", desc := "(I)V" } : Jvm.MethodName)) ∈ lw_all := lw_g (lw_at lw_m3 174 rfl) rfl
theorem q817 : (Jvm.Cond.selects "TallySlate$Scanner" ({ cls := "TallySlate$Scanner", name := "take", desc := "(I)V" } : Jvm.MethodName) ({ cls := "TallySlate$Scanner", name := "take", desc := "(I)V" } : Jvm.MethodName)) ∈ lw_all := lw_g (lw_at lw_m3 175 rfl) rfl
theorem q818 : (Jvm.Cond.code ({ cls := "TallySlate$Scanner", name := "take", desc := "(I)V" } : Jvm.MethodName) prog_26_method_15_code (2 : Nat) (Option.none : Option Jvm.ClassFile.FieldType)) ∈ lw_all := lw_g (lw_at lw_m3 176 rfl) rfl
theorem q819 : (Jvm.Cond.methodLink "TallySlate$Scanner" (100 : Nat) ({ cls := "TallySlate$Scanner", name := "is", desc := "(I)Z" } : Jvm.MethodName)) ∈ lw_all := lw_g (lw_at lw_m3 177 rfl) rfl
theorem q820 : (Jvm.Cond.instanceMethod ({ cls := "TallySlate$Scanner", name := "is", desc := "(I)Z" } : Jvm.MethodName)) ∈ lw_all := lw_g (lw_at lw_m3 178 rfl) rfl
theorem q821 : (Jvm.Cond.selects "TallySlate$Scanner" ({ cls := "TallySlate$Scanner", name := "is", desc := "(I)Z" } : Jvm.MethodName) ({ cls := "TallySlate$Scanner", name := "is", desc := "(I)Z" } : Jvm.MethodName)) ∈ lw_all := lw_g (lw_at lw_m3 179 rfl) rfl
theorem q822 : (Jvm.Cond.code ({ cls := "TallySlate$Scanner", name := "is", desc := "(I)Z" } : Jvm.MethodName) prog_26_method_11_code (2 : Nat) (Option.some Jvm.ClassFile.FieldType.boolean)) ∈ lw_all := lw_g (lw_at lw_m3 180 rfl) rfl
theorem q823 : (Jvm.Cond.methodLink "TallySlate$Scanner" (103 : Nat) ({ cls := "TallySlate$Scanner", name := "next", desc := "()V" } : Jvm.MethodName)) ∈ lw_all := lw_g (lw_at lw_m3 181 rfl) rfl
theorem q1000 : (Jvm.Cond.instanceMethod ({ cls := "TallySlate$Scanner", name := "isCalled", desc := "()Z" } : Jvm.MethodName)) ∈ lw_all := lw_g (lw_at lw_m4 118 rfl) rfl
theorem q1001 : (Jvm.Cond.selects "TallySlate$Scanner" ({ cls := "TallySlate$Scanner", name := "isCalled", desc := "()Z" } : Jvm.MethodName) ({ cls := "TallySlate$Scanner", name := "isCalled", desc := "()Z" } : Jvm.MethodName)) ∈ lw_all := lw_g (lw_at lw_m4 119 rfl) rfl
theorem q1002 : (Jvm.Cond.code ({ cls := "TallySlate$Scanner", name := "isCalled", desc := "()Z" } : Jvm.MethodName) prog_26_method_13_code (2 : Nat) (Option.some Jvm.ClassFile.FieldType.boolean)) ∈ lw_all := lw_g (lw_at lw_m4 120 rfl) rfl
theorem q193 : (Jvm.Cond.initialized "TallySlate$BuiltIn") ∈ lw_all := lw_g (lw_at lw_m1 31 rfl) rfl
theorem q929 : (Jvm.Cond.fieldLink "TallySlate$BuiltIn" (31 : Nat) "TallySlate$BuiltIn" "place" "I") ∈ lw_all := lw_g (lw_at lw_m4 47 rfl) rfl
theorem q930 : (Jvm.Cond.sameField "TallySlate$BuiltIn" "TallySlate$Node" "place" "I") ∈ lw_all := lw_g (lw_at lw_m4 48 rfl) rfl
theorem q961 : (Jvm.Cond.fieldLinkNest "TallySlate$BuiltIn" (23 : Nat) "TallySlate$Nodes" "a" "[LTallySlate$Node;" "TallySlate") ∈ lw_tbl := lw_at lw_m4 79 rfl
theorem q970 : (Jvm.Cond.fieldLinkNest "TallySlate$BuiltIn" (20 : Nat) "TallySlate$Nodes" "many" "I" "TallySlate") ∈ lw_tbl := lw_at lw_m4 88 rfl
theorem q1014 : (Jvm.Cond.instanceMethod ({ cls := "TallySlate$BuiltIn", name := "<init>", desc := "(I)V" } : Jvm.MethodName)) ∈ lw_all := lw_g (lw_at lw_m4 132 rfl) rfl
theorem q1015 : (Jvm.Cond.code ({ cls := "TallySlate$BuiltIn", name := "<init>", desc := "(I)V" } : Jvm.MethodName) prog_4_method_1_code (2 : Nat) (Option.none : Option Jvm.ClassFile.FieldType)) ∈ lw_all := lw_g (lw_at lw_m4 133 rfl) rfl
theorem q1016 : (Jvm.Cond.methodLinkNest "TallySlate$BuiltIn" (1 : Nat) ({ cls := "TallySlate$Node", name := "<init>", desc := "()V" } : Jvm.MethodName) "TallySlate") ∈ lw_tbl := lw_at lw_m4 134 rfl
theorem q1017 : (Jvm.Cond.classLink "TallySlate$BuiltIn" (7 : Nat) "TallySlate$Nodes") ∈ lw_all := lw_g (lw_at lw_m4 135 rfl) rfl
theorem q1018 : (Jvm.Cond.methodLinkNest "TallySlate$BuiltIn" (9 : Nat) ({ cls := "TallySlate$Nodes", name := "<init>", desc := "()V" } : Jvm.MethodName) "TallySlate") ∈ lw_tbl := lw_at lw_m4 136 rfl
theorem q1019 : (Jvm.Cond.fieldLink "TallySlate$BuiltIn" (16 : Nat) "TallySlate$BuiltIn" "which" "I") ∈ lw_all := lw_g (lw_at lw_m4 137 rfl) rfl
theorem q1020 : (Jvm.Cond.fieldLink "TallySlate$BuiltIn" (10 : Nat) "TallySlate$BuiltIn" "parts" "LTallySlate$Nodes;") ∈ lw_all := lw_g (lw_at lw_m4 138 rfl) rfl
theorem q1027 : (Jvm.Cond.superclass "TallySlate$BuiltIn" "TallySlate$Node") ∈ lw_all := lw_g (lw_at lw_m4 145 rfl) rfl
theorem q1344 : (Jvm.Cond.selects "TallySlate$BuiltIn" ({ cls := "TallySlate$Node", name := "work", desc := "(LTallySlate$Machine;)V" } : Jvm.MethodName) ({ cls := "TallySlate$BuiltIn", name := "work", desc := "(LTallySlate$Machine;)V" } : Jvm.MethodName)) ∈ lw_all := lw_g (lw_at lw_m5 222 rfl) rfl
theorem q1345 : (Jvm.Cond.instanceMethod ({ cls := "TallySlate$BuiltIn", name := "work", desc := "(LTallySlate$Machine;)V" } : Jvm.MethodName)) ∈ lw_all := lw_g (lw_at lw_m5 223 rfl) rfl
theorem q1346 : (Jvm.Cond.code ({ cls := "TallySlate$BuiltIn", name := "work", desc := "(LTallySlate$Machine;)V" } : Jvm.MethodName) prog_4_method_2_code (3 : Nat) (Option.none : Option Jvm.ClassFile.FieldType)) ∈ lw_all := lw_g (lw_at lw_m5 224 rfl) rfl
theorem q1347 : (Jvm.Cond.methodLink "TallySlate$BuiltIn" (27 : Nat) ({ cls := "TallySlate$Node", name := "work", desc := "(LTallySlate$Machine;)V" } : Jvm.MethodName)) ∈ lw_all := lw_g (lw_at lw_m5 225 rfl) rfl
theorem q1687 : (Jvm.Cond.methodLink "TallySlate$BuiltIn" (34 : Nat) ({ cls := "TallySlate$Machine", name := "step", desc := "(I)V" } : Jvm.MethodName)) ∈ lw_all := lw_g (lw_at lw_m7 85 rfl) rfl
theorem q1688 : (Jvm.Cond.methodLink "TallySlate$BuiltIn" (40 : Nat) ({ cls := "TallySlate$Machine", name := "builtIn", desc := "(III)V" } : Jvm.MethodName)) ∈ lw_all := lw_g (lw_at lw_m7 86 rfl) rfl
theorem q3044 : (Jvm.Cond.castable "TallySlate$BuiltIn" "TallySlate$Node") ∈ lw_tbl := lw_at lw_m13 2 rfl
theorem q194 : (Jvm.Cond.initialized "TallySlate$Call") ∈ lw_all := lw_g (lw_at lw_m1 32 rfl) rfl
theorem q927 : (Jvm.Cond.fieldLink "TallySlate$Call" (33 : Nat) "TallySlate$Call" "place" "I") ∈ lw_all := lw_g (lw_at lw_m4 45 rfl) rfl
theorem q928 : (Jvm.Cond.sameField "TallySlate$Call" "TallySlate$Node" "place" "I") ∈ lw_all := lw_g (lw_at lw_m4 46 rfl) rfl
theorem q962 : (Jvm.Cond.fieldLinkNest "TallySlate$Call" (25 : Nat) "TallySlate$Nodes" "a" "[LTallySlate$Node;" "TallySlate") ∈ lw_tbl := lw_at lw_m4 80 rfl
theorem q971 : (Jvm.Cond.fieldLinkNest "TallySlate$Call" (22 : Nat) "TallySlate$Nodes" "many" "I" "TallySlate") ∈ lw_tbl := lw_at lw_m4 89 rfl
theorem q1036 : (Jvm.Cond.instanceMethod ({ cls := "TallySlate$Call", name := "<init>", desc := "(I)V" } : Jvm.MethodName)) ∈ lw_all := lw_g (lw_at lw_m4 154 rfl) rfl
theorem q1037 : (Jvm.Cond.code ({ cls := "TallySlate$Call", name := "<init>", desc := "(I)V" } : Jvm.MethodName) prog_5_method_1_code (2 : Nat) (Option.none : Option Jvm.ClassFile.FieldType)) ∈ lw_all := lw_g (lw_at lw_m4 155 rfl) rfl
theorem q1038 : (Jvm.Cond.methodLinkNest "TallySlate$Call" (3 : Nat) ({ cls := "TallySlate$Node", name := "<init>", desc := "()V" } : Jvm.MethodName) "TallySlate") ∈ lw_tbl := lw_at lw_m4 156 rfl
theorem q1039 : (Jvm.Cond.classLink "TallySlate$Call" (9 : Nat) "TallySlate$Nodes") ∈ lw_all := lw_g (lw_at lw_m4 157 rfl) rfl
theorem q1040 : (Jvm.Cond.methodLinkNest "TallySlate$Call" (11 : Nat) ({ cls := "TallySlate$Nodes", name := "<init>", desc := "()V" } : Jvm.MethodName) "TallySlate") ∈ lw_tbl := lw_at lw_m4 158 rfl
theorem q1041 : (Jvm.Cond.fieldLink "TallySlate$Call" (18 : Nat) "TallySlate$Call" "which" "I") ∈ lw_all := lw_g (lw_at lw_m4 159 rfl) rfl
theorem q1045 : (Jvm.Cond.fieldLink "TallySlate$Call" (42 : Nat) "TallySlate$Call" "function" "LTallySlate$Definition;") ∈ lw_all := lw_g (lw_at lw_m4 163 rfl) rfl
theorem q1047 : (Jvm.Cond.fieldLink "TallySlate$Call" (12 : Nat) "TallySlate$Call" "parts" "LTallySlate$Nodes;") ∈ lw_all := lw_g (lw_at lw_m4 165 rfl) rfl
theorem q1062 : (Jvm.Cond.superclass "TallySlate$Call" "TallySlate$Node") ∈ lw_all := lw_g (lw_at lw_m4 180 rfl) rfl
theorem q1348 : (Jvm.Cond.instanceMethod ({ cls := "TallySlate$Call", name := "work", desc := "(LTallySlate$Machine;)V" } : Jvm.MethodName)) ∈ lw_all := lw_g (lw_at lw_m5 226 rfl) rfl
theorem q1349 : (Jvm.Cond.code ({ cls := "TallySlate$Call", name := "work", desc := "(LTallySlate$Machine;)V" } : Jvm.MethodName) prog_5_method_2_code (3 : Nat) (Option.none : Option Jvm.ClassFile.FieldType)) ∈ lw_all := lw_g (lw_at lw_m5 227 rfl) rfl
theorem q1350 : (Jvm.Cond.methodLink "TallySlate$Call" (29 : Nat) ({ cls := "TallySlate$Node", name := "work", desc := "(LTallySlate$Machine;)V" } : Jvm.MethodName)) ∈ lw_all := lw_g (lw_at lw_m5 228 rfl) rfl
theorem q1643 : (Jvm.Cond.methodLink "TallySlate$Call" (36 : Nat) ({ cls := "TallySlate$Machine", name := "step", desc := "(I)V" } : Jvm.MethodName)) ∈ lw_all := lw_g (lw_at lw_m7 41 rfl) rfl
theorem q1644 : (Jvm.Cond.methodLink "TallySlate$Call" (46 : Nat) ({ cls := "TallySlate$Machine", name := "call", desc := "(LTallySlate$Definition;I)V" } : Jvm.MethodName)) ∈ lw_all := lw_g (lw_at lw_m7 42 rfl) rfl
theorem q1645 : (Jvm.Cond.methodLink "TallySlate$Call" (50 : Nat) ({ cls := "TallySlate$Machine", name := "each", desc := "(LTallySlate$Definition;I)V" } : Jvm.MethodName)) ∈ lw_all := lw_g (lw_at lw_m7 43 rfl) rfl
theorem q1679 : (Jvm.Cond.methodLink "TallySlate$Call" (53 : Nat) ({ cls := "TallySlate$Machine", name := "fold", desc := "(LTallySlate$Definition;I)V" } : Jvm.MethodName)) ∈ lw_all := lw_g (lw_at lw_m7 77 rfl) rfl
theorem q1927 : (Jvm.Cond.selects "TallySlate$Call" ({ cls := "TallySlate$Node", name := "work", desc := "(LTallySlate$Machine;)V" } : Jvm.MethodName) ({ cls := "TallySlate$Call", name := "work", desc := "(LTallySlate$Machine;)V" } : Jvm.MethodName)) ∈ lw_all := lw_g (lw_at lw_m8 85 rfl) rfl
theorem q3045 : (Jvm.Cond.castable "TallySlate$Call" "TallySlate$Node") ∈ lw_tbl := lw_at lw_m13 3 rfl
theorem q195 : (Jvm.Cond.initialized "TallySlate$Name") ∈ lw_all := lw_g (lw_at lw_m1 33 rfl) rfl
theorem q921 : (Jvm.Cond.fieldLink "TallySlate$Name" (13 : Nat) "TallySlate$Name" "place" "I") ∈ lw_all := lw_g (lw_at lw_m4 39 rfl) rfl
theorem q922 : (Jvm.Cond.sameField "TallySlate$Name" "TallySlate$Node" "place" "I") ∈ lw_all := lw_g (lw_at lw_m4 40 rfl) rfl
theorem q1075 : (Jvm.Cond.instanceMethod ({ cls := "TallySlate$Name", name := "<init>", desc := "(I)V" } : Jvm.MethodName)) ∈ lw_all := lw_g (lw_at lw_m4 193 rfl) rfl
theorem q1076 : (Jvm.Cond.code ({ cls := "TallySlate$Name", name := "<init>", desc := "(I)V" } : Jvm.MethodName) prog_15_method_1_code (2 : Nat) (Option.none : Option Jvm.ClassFile.FieldType)) ∈ lw_all := lw_g (lw_at lw_m4 194 rfl) rfl
theorem q1077 : (Jvm.Cond.methodLinkNest "TallySlate$Name" (1 : Nat) ({ cls := "TallySlate$Node", name := "<init>", desc := "()V" } : Jvm.MethodName) "TallySlate") ∈ lw_tbl := lw_at lw_m4 195 rfl
theorem q1078 : (Jvm.Cond.fieldLink "TallySlate$Name" (7 : Nat) "TallySlate$Name" "number" "I") ∈ lw_all := lw_g (lw_at lw_m4 196 rfl) rfl
theorem q1082 : (Jvm.Cond.superclass "TallySlate$Name" "TallySlate$Node") ∈ lw_all := lw_g (lw_at lw_m4 200 rfl) rfl
theorem q1357 : (Jvm.Cond.instanceMethod ({ cls := "TallySlate$Name", name := "work", desc := "(LTallySlate$Machine;)V" } : Jvm.MethodName)) ∈ lw_all := lw_g (lw_at lw_m5 235 rfl) rfl
theorem q1358 : (Jvm.Cond.code ({ cls := "TallySlate$Name", name := "work", desc := "(LTallySlate$Machine;)V" } : Jvm.MethodName) prog_15_method_2_code (2 : Nat) (Option.none : Option Jvm.ClassFile.FieldType)) ∈ lw_all := lw_g (lw_at lw_m5 236 rfl) rfl
theorem q1359 : (Jvm.Cond.methodLink "TallySlate$Name" (16 : Nat) ({ cls := "TallySlate$Machine", name := "value", desc := "(II)V" } : Jvm.MethodName)) ∈ lw_all := lw_g (lw_at lw_m5 237 rfl) rfl
theorem q1930 : (Jvm.Cond.selects "TallySlate$Name" ({ cls := "TallySlate$Node", name := "work", desc := "(LTallySlate$Machine;)V" } : Jvm.MethodName) ({ cls := "TallySlate$Name", name := "work", desc := "(LTallySlate$Machine;)V" } : Jvm.MethodName)) ∈ lw_all := lw_g (lw_at lw_m8 88 rfl) rfl
theorem q3048 : (Jvm.Cond.castable "TallySlate$Name" "TallySlate$Node") ∈ lw_tbl := lw_at lw_m13 6 rfl
theorem q196 : (Jvm.Cond.initialized "TallySlate$Places") ∈ lw_all := lw_g (lw_at lw_m1 34 rfl) rfl
theorem q960 : (Jvm.Cond.fieldLinkNest "TallySlate$Places" (16 : Nat) "TallySlate$Nodes" "a" "[LTallySlate$Node;" "TallySlate") ∈ lw_tbl := lw_at lw_m4 78 rfl
theorem q967 : (Jvm.Cond.fieldLinkNest "TallySlate$Places" (28 : Nat) "TallySlate$Nodes" "places" "[I" "TallySlate") ∈ lw_tbl := lw_at lw_m4 85 rfl
theorem q973 : (Jvm.Cond.fieldLinkNest "TallySlate$Places" (24 : Nat) "TallySlate$Nodes" "many" "I" "TallySlate") ∈ lw_tbl := lw_at lw_m4 91 rfl
theorem q1086 : (Jvm.Cond.instanceMethod ({ cls := "TallySlate$Places", name := "<init>", desc := "()V" } : Jvm.MethodName)) ∈ lw_all := lw_g (lw_at lw_m4 204 rfl) rfl
theorem q1087 : (Jvm.Cond.code ({ cls := "TallySlate$Places", name := "<init>", desc := "()V" } : Jvm.MethodName) prog_21_method_1_code (1 : Nat) (Option.none : Option Jvm.ClassFile.FieldType)) ∈ lw_all := lw_g (lw_at lw_m4 205 rfl) rfl
theorem q1088 : (Jvm.Cond.methodLinkNest "TallySlate$Places" (1 : Nat) ({ cls := "TallySlate$Node", name := "<init>", desc := "()V" } : Jvm.MethodName) "TallySlate") ∈ lw_tbl := lw_at lw_m4 206 rfl
theorem q1089 : (Jvm.Cond.classLink "TallySlate$Places" (7 : Nat) "TallySlate$Nodes") ∈ lw_all := lw_g (lw_at lw_m4 207 rfl) rfl
theorem q1090 : (Jvm.Cond.methodLinkNest "TallySlate$Places" (9 : Nat) ({ cls := "TallySlate$Nodes", name := "<init>", desc := "()V" } : Jvm.MethodName) "TallySlate") ∈ lw_tbl := lw_at lw_m4 208 rfl
theorem q1091 : (Jvm.Cond.fieldLink "TallySlate$Places" (10 : Nat) "TallySlate$Places" "parts" "LTallySlate$Nodes;") ∈ lw_all := lw_g (lw_at lw_m4 209 rfl) rfl
theorem q1096 : (Jvm.Cond.superclass "TallySlate$Places" "TallySlate$Node") ∈ lw_all := lw_g (lw_at lw_m4 214 rfl) rfl
theorem q1370 : (Jvm.Cond.instanceMethod ({ cls := "TallySlate$Places", name := "work", desc := "(LTallySlate$Machine;)V" } : Jvm.MethodName)) ∈ lw_all := lw_g (lw_at lw_m6 8 rfl) rfl
theorem q1371 : (Jvm.Cond.code ({ cls := "TallySlate$Places", name := "work", desc := "(LTallySlate$Machine;)V" } : Jvm.MethodName) prog_21_method_2_code (3 : Nat) (Option.none : Option Jvm.ClassFile.FieldType)) ∈ lw_all := lw_g (lw_at lw_m6 9 rfl) rfl
theorem q1372 : (Jvm.Cond.methodLink "TallySlate$Places" (20 : Nat) ({ cls := "TallySlate$Node", name := "work", desc := "(LTallySlate$Machine;)V" } : Jvm.MethodName)) ∈ lw_all := lw_g (lw_at lw_m6 10 rfl) rfl
theorem q1483 : (Jvm.Cond.methodLink "TallySlate$Places" (32 : Nat) ({ cls := "TallySlate$Machine", name := "step", desc := "(I)V" } : Jvm.MethodName)) ∈ lw_all := lw_g (lw_at lw_m6 121 rfl) rfl
theorem q1484 : (Jvm.Cond.methodLink "TallySlate$Places" (38 : Nat) ({ cls := "TallySlate$Machine", name := "at", desc := "(I)V" } : Jvm.MethodName)) ∈ lw_all := lw_g (lw_at lw_m6 122 rfl) rfl
theorem q1932 : (Jvm.Cond.selects "TallySlate$Places" ({ cls := "TallySlate$Node", name := "work", desc := "(LTallySlate$Machine;)V" } : Jvm.MethodName) ({ cls := "TallySlate$Places", name := "work", desc := "(LTallySlate$Machine;)V" } : Jvm.MethodName)) ∈ lw_all := lw_g (lw_at lw_m8 90 rfl) rfl
theorem q3050 : (Jvm.Cond.castable "TallySlate$Places" "TallySlate$Node") ∈ lw_tbl := lw_at lw_m13 8 rfl
theorem q197 : (Jvm.Cond.initialized "TallySlate$Prefix") ∈ lw_all := lw_g (lw_at lw_m1 35 rfl) rfl
theorem q469 : (Jvm.Cond.fieldLinkNest "TallySlate$Prefix" (31 : Nat) "TallySlate$Machine" "signs" "LTallySlate$Signs;" "TallySlate") ∈ lw_tbl := lw_at lw_m2 67 rfl
theorem q923 : (Jvm.Cond.fieldLink "TallySlate$Prefix" (21 : Nat) "TallySlate$Prefix" "place" "I") ∈ lw_all := lw_g (lw_at lw_m4 41 rfl) rfl
theorem q924 : (Jvm.Cond.sameField "TallySlate$Prefix" "TallySlate$Node" "place" "I") ∈ lw_all := lw_g (lw_at lw_m4 42 rfl) rfl
theorem q1100 : (Jvm.Cond.instanceMethod ({ cls := "TallySlate$Prefix", name := "<init>", desc := "(LTallySlate$Node;Z)V" } : Jvm.MethodName)) ∈ lw_all := lw_g (lw_at lw_m4 218 rfl) rfl
theorem q1101 : (Jvm.Cond.code ({ cls := "TallySlate$Prefix", name := "<init>", desc := "(LTallySlate$Node;Z)V" } : Jvm.MethodName) prog_23_method_1_code (3 : Nat) (Option.none : Option Jvm.ClassFile.FieldType)) ∈ lw_all := lw_g (lw_at lw_m4 219 rfl) rfl
theorem q1102 : (Jvm.Cond.methodLinkNest "TallySlate$Prefix" (1 : Nat) ({ cls := "TallySlate$Node", name := "<init>", desc := "()V" } : Jvm.MethodName) "TallySlate") ∈ lw_tbl := lw_at lw_m4 220 rfl
theorem q1103 : (Jvm.Cond.fieldLink "TallySlate$Prefix" (7 : Nat) "TallySlate$Prefix" "part" "LTallySlate$Node;") ∈ lw_all := lw_g (lw_at lw_m4 221 rfl) rfl
theorem q1104 : (Jvm.Cond.fieldLink "TallySlate$Prefix" (13 : Nat) "TallySlate$Prefix" "not" "Z") ∈ lw_all := lw_g (lw_at lw_m4 222 rfl) rfl
theorem q1110 : (Jvm.Cond.superclass "TallySlate$Prefix" "TallySlate$Node") ∈ lw_all := lw_g (lw_at lw_m4 228 rfl) rfl
theorem q1373 : (Jvm.Cond.instanceMethod ({ cls := "TallySlate$Prefix", name := "work", desc := "(LTallySlate$Machine;)V" } : Jvm.MethodName)) ∈ lw_all := lw_g (lw_at lw_m6 11 rfl) rfl
theorem q1374 : (Jvm.Cond.code ({ cls := "TallySlate$Prefix", name := "work", desc := "(LTallySlate$Machine;)V" } : Jvm.MethodName) prog_23_method_2_code (2 : Nat) (Option.none : Option Jvm.ClassFile.FieldType)) ∈ lw_all := lw_g (lw_at lw_m6 12 rfl) rfl
theorem q1375 : (Jvm.Cond.methodLink "TallySlate$Prefix" (17 : Nat) ({ cls := "TallySlate$Node", name := "work", desc := "(LTallySlate$Machine;)V" } : Jvm.MethodName)) ∈ lw_all := lw_g (lw_at lw_m6 13 rfl) rfl
theorem q1376 : (Jvm.Cond.methodLink "TallySlate$Prefix" (25 : Nat) ({ cls := "TallySlate$Machine", name := "step", desc := "(I)V" } : Jvm.MethodName)) ∈ lw_all := lw_g (lw_at lw_m6 14 rfl) rfl
theorem q1377 : (Jvm.Cond.methodLink "TallySlate$Prefix" (35 : Nat) ({ cls := "TallySlate$Signs", name := "one", desc := "(ZI)V" } : Jvm.MethodName)) ∈ lw_all := lw_g (lw_at lw_m6 15 rfl) rfl
theorem q1933 : (Jvm.Cond.selects "TallySlate$Prefix" ({ cls := "TallySlate$Node", name := "work", desc := "(LTallySlate$Machine;)V" } : Jvm.MethodName) ({ cls := "TallySlate$Prefix", name := "work", desc := "(LTallySlate$Machine;)V" } : Jvm.MethodName)) ∈ lw_all := lw_g (lw_at lw_m8 91 rfl) rfl
theorem q3051 : (Jvm.Cond.castable "TallySlate$Prefix" "TallySlate$Node") ∈ lw_tbl := lw_at lw_m13 9 rfl
theorem q198 : (Jvm.Cond.initialized "TallySlate$Chain") ∈ lw_all := lw_g (lw_at lw_m1 36 rfl) rfl
theorem q470 : (Jvm.Cond.fieldLinkNest "TallySlate$Chain" (38 : Nat) "TallySlate$Machine" "signs" "LTallySlate$Signs;" "TallySlate") ∈ lw_tbl := lw_at lw_m2 68 rfl
theorem q959 : (Jvm.Cond.fieldLinkNest "TallySlate$Chain" (16 : Nat) "TallySlate$Nodes" "a" "[LTallySlate$Node;" "TallySlate") ∈ lw_tbl := lw_at lw_m4 77 rfl
theorem q965 : (Jvm.Cond.fieldLinkNest "TallySlate$Chain" (42 : Nat) "TallySlate$Nodes" "signs" "[I" "TallySlate") ∈ lw_tbl := lw_at lw_m4 83 rfl
theorem q968 : (Jvm.Cond.fieldLinkNest "TallySlate$Chain" (28 : Nat) "TallySlate$Nodes" "places" "[I" "TallySlate") ∈ lw_tbl := lw_at lw_m4 86 rfl
theorem q974 : (Jvm.Cond.fieldLinkNest "TallySlate$Chain" (24 : Nat) "TallySlate$Nodes" "many" "I" "TallySlate") ∈ lw_tbl := lw_at lw_m4 92 rfl
theorem q1118 : (Jvm.Cond.instanceMethod ({ cls := "TallySlate$Chain", name := "<init>", desc := "()V" } : Jvm.MethodName)) ∈ lw_all := lw_g (lw_at lw_m4 236 rfl) rfl
theorem q1119 : (Jvm.Cond.code ({ cls := "TallySlate$Chain", name := "<init>", desc := "()V" } : Jvm.MethodName) prog_6_method_1_code (1 : Nat) (Option.none : Option Jvm.ClassFile.FieldType)) ∈ lw_all := lw_g (lw_at lw_m4 237 rfl) rfl
theorem q1120 : (Jvm.Cond.methodLinkNest "TallySlate$Chain" (1 : Nat) ({ cls := "TallySlate$Node", name := "<init>", desc := "()V" } : Jvm.MethodName) "TallySlate") ∈ lw_tbl := lw_at lw_m4 238 rfl
theorem q1121 : (Jvm.Cond.classLink "TallySlate$Chain" (7 : Nat) "TallySlate$Nodes") ∈ lw_all := lw_g (lw_at lw_m4 239 rfl) rfl
theorem q1122 : (Jvm.Cond.methodLinkNest "TallySlate$Chain" (9 : Nat) ({ cls := "TallySlate$Nodes", name := "<init>", desc := "()V" } : Jvm.MethodName) "TallySlate") ∈ lw_tbl := lw_at lw_m5 0 rfl
theorem q1123 : (Jvm.Cond.fieldLink "TallySlate$Chain" (10 : Nat) "TallySlate$Chain" "parts" "LTallySlate$Nodes;") ∈ lw_all := lw_g (lw_at lw_m5 1 rfl) rfl
theorem q1128 : (Jvm.Cond.superclass "TallySlate$Chain" "TallySlate$Node") ∈ lw_all := lw_g (lw_at lw_m5 6 rfl) rfl
theorem q1351 : (Jvm.Cond.instanceMethod ({ cls := "TallySlate$Chain", name := "work", desc := "(LTallySlate$Machine;)V" } : Jvm.MethodName)) ∈ lw_all := lw_g (lw_at lw_m5 229 rfl) rfl
theorem q1352 : (Jvm.Cond.code ({ cls := "TallySlate$Chain", name := "work", desc := "(LTallySlate$Machine;)V" } : Jvm.MethodName) prog_6_method_2_code (3 : Nat) (Option.none : Option Jvm.ClassFile.FieldType)) ∈ lw_all := lw_g (lw_at lw_m5 230 rfl) rfl
theorem q1353 : (Jvm.Cond.methodLink "TallySlate$Chain" (20 : Nat) ({ cls := "TallySlate$Node", name := "work", desc := "(LTallySlate$Machine;)V" } : Jvm.MethodName)) ∈ lw_all := lw_g (lw_at lw_m5 231 rfl) rfl
theorem q1621 : (Jvm.Cond.methodLink "TallySlate$Chain" (32 : Nat) ({ cls := "TallySlate$Machine", name := "step", desc := "(I)V" } : Jvm.MethodName)) ∈ lw_all := lw_g (lw_at lw_m7 19 rfl) rfl
theorem q1622 : (Jvm.Cond.methodLink "TallySlate$Chain" (44 : Nat) ({ cls := "TallySlate$Signs", name := "two", desc := "(II)V" } : Jvm.MethodName)) ∈ lw_all := lw_g (lw_at lw_m7 20 rfl) rfl
theorem q1928 : (Jvm.Cond.selects "TallySlate$Chain" ({ cls := "TallySlate$Node", name := "work", desc := "(LTallySlate$Machine;)V" } : Jvm.MethodName) ({ cls := "TallySlate$Chain", name := "work", desc := "(LTallySlate$Machine;)V" } : Jvm.MethodName)) ∈ lw_all := lw_g (lw_at lw_m8 86 rfl) rfl
theorem q3046 : (Jvm.Cond.castable "TallySlate$Chain" "TallySlate$Node") ∈ lw_tbl := lw_at lw_m13 4 rfl
theorem q199 : (Jvm.Cond.initialized "TallySlate$While") ∈ lw_all := lw_g (lw_at lw_m1 37 rfl) rfl
theorem q872 : (Jvm.Cond.fieldLink "TallySlate$While" (7 : Nat) "TallySlate$While" "place" "I") ∈ lw_all := lw_g (lw_at lw_m3 230 rfl) rfl
theorem q873 : (Jvm.Cond.sameField "TallySlate$While" "TallySlate$Deed" "place" "I") ∈ lw_all := lw_g (lw_at lw_m3 231 rfl) rfl
theorem q1138 : (Jvm.Cond.instanceMethod ({ cls := "TallySlate$While", name := "<init>", desc := "()V" } : Jvm.MethodName)) ∈ lw_all := lw_g (lw_at lw_m5 16 rfl) rfl
theorem q1139 : (Jvm.Cond.code ({ cls := "TallySlate$While", name := "<init>", desc := "()V" } : Jvm.MethodName) prog_33_method_1_code (1 : Nat) (Option.none : Option Jvm.ClassFile.FieldType)) ∈ lw_all := lw_g (lw_at lw_m5 17 rfl) rfl
theorem q1140 : (Jvm.Cond.methodLinkNest "TallySlate$While" (1 : Nat) ({ cls := "TallySlate$Deed", name := "<init>", desc := "()V" } : Jvm.MethodName) "TallySlate") ∈ lw_tbl := lw_at lw_m5 18 rfl
theorem q1141 : (Jvm.Cond.fieldLink "TallySlate$While" (19 : Nat) "TallySlate$While" "test" "LTallySlate$Node;") ∈ lw_all := lw_g (lw_at lw_m5 19 rfl) rfl
theorem q1143 : (Jvm.Cond.fieldLink "TallySlate$While" (33 : Nat) "TallySlate$While" "body" "LTallySlate$Block;") ∈ lw_all := lw_g (lw_at lw_m5 21 rfl) rfl
theorem q1150 : (Jvm.Cond.superclass "TallySlate$While" "TallySlate$Deed") ∈ lw_all := lw_g (lw_at lw_m5 28 rfl) rfl
theorem q2046 : (Jvm.Cond.selects "TallySlate$While" ({ cls := "TallySlate$Deed", name := "act", desc := "(LTallySlate$Machine;)Z" } : Jvm.MethodName) ({ cls := "TallySlate$While", name := "act", desc := "(LTallySlate$Machine;)Z" } : Jvm.MethodName)) ∈ lw_all := lw_g (lw_at lw_m8 204 rfl) rfl
theorem q2047 : (Jvm.Cond.instanceMethod ({ cls := "TallySlate$While", name := "act", desc := "(LTallySlate$Machine;)Z" } : Jvm.MethodName)) ∈ lw_all := lw_g (lw_at lw_m8 205 rfl) rfl
theorem q2048 : (Jvm.Cond.code ({ cls := "TallySlate$While", name := "act", desc := "(LTallySlate$Machine;)Z" } : Jvm.MethodName) prog_33_method_2_code (3 : Nat) (Option.some Jvm.ClassFile.FieldType.boolean)) ∈ lw_all := lw_g (lw_at lw_m8 206 rfl) rfl
theorem q2049 : (Jvm.Cond.methodLink "TallySlate$While" (13 : Nat) ({ cls := "TallySlate$Machine", name := "step", desc := "(I)V" } : Jvm.MethodName)) ∈ lw_all := lw_g (lw_at lw_m8 207 rfl) rfl
theorem q2050 : (Jvm.Cond.methodLink "TallySlate$While" (23 : Nat) ({ cls := "TallySlate$Node", name := "work", desc := "(LTallySlate$Machine;)V" } : Jvm.MethodName)) ∈ lw_all := lw_g (lw_at lw_m8 208 rfl) rfl
theorem q2051 : (Jvm.Cond.methodLink "TallySlate$While" (29 : Nat) ({ cls := "TallySlate$Machine", name := "isTrue", desc := "(I)Z" } : Jvm.MethodName)) ∈ lw_all := lw_g (lw_at lw_m8 209 rfl) rfl
theorem q2052 : (Jvm.Cond.methodLink "TallySlate$While" (37 : Nat) ({ cls := "TallySlate$Block", name := "act", desc := "(LTallySlate$Machine;)Z" } : Jvm.MethodName)) ∈ lw_all := lw_g (lw_at lw_m8 210 rfl) rfl
theorem q3043 : (Jvm.Cond.castable "TallySlate$While" "TallySlate$Deed") ∈ lw_tbl := lw_at lw_m13 1 rfl
theorem q200 : (Jvm.Cond.initialized "TallySlate$For") ∈ lw_all := lw_g (lw_at lw_m1 38 rfl) rfl
theorem q460 : (Jvm.Cond.fieldLinkNest "TallySlate$For" (29 : Nat) "TallySlate$Machine" "top" "I" "TallySlate") ∈ lw_tbl := lw_at lw_m2 58 rfl
theorem q874 : (Jvm.Cond.fieldLink "TallySlate$For" (19 : Nat) "TallySlate$For" "place" "I") ∈ lw_all := lw_g (lw_at lw_m3 232 rfl) rfl
theorem q875 : (Jvm.Cond.sameField "TallySlate$For" "TallySlate$Deed" "place" "I") ∈ lw_all := lw_g (lw_at lw_m3 233 rfl) rfl
theorem q1159 : (Jvm.Cond.instanceMethod ({ cls := "TallySlate$For", name := "<init>", desc := "()V" } : Jvm.MethodName)) ∈ lw_all := lw_g (lw_at lw_m5 37 rfl) rfl
theorem q1160 : (Jvm.Cond.code ({ cls := "TallySlate$For", name := "<init>", desc := "()V" } : Jvm.MethodName) prog_10_method_1_code (1 : Nat) (Option.none : Option Jvm.ClassFile.FieldType)) ∈ lw_all := lw_g (lw_at lw_m5 38 rfl) rfl
theorem q1161 : (Jvm.Cond.methodLinkNest "TallySlate$For" (1 : Nat) ({ cls := "TallySlate$Deed", name := "<init>", desc := "()V" } : Jvm.MethodName) "TallySlate") ∈ lw_tbl := lw_at lw_m5 39 rfl
theorem q1162 : (Jvm.Cond.fieldLink "TallySlate$For" (40 : Nat) "TallySlate$For" "number" "I") ∈ lw_all := lw_g (lw_at lw_m5 40 rfl) rfl
theorem q1164 : (Jvm.Cond.fieldLink "TallySlate$For" (7 : Nat) "TallySlate$For" "of" "LTallySlate$Node;") ∈ lw_all := lw_g (lw_at lw_m5 42 rfl) rfl
theorem q1166 : (Jvm.Cond.fieldLink "TallySlate$For" (46 : Nat) "TallySlate$For" "body" "LTallySlate$Block;") ∈ lw_all := lw_g (lw_at lw_m5 44 rfl) rfl
theorem q1175 : (Jvm.Cond.superclass "TallySlate$For" "TallySlate$Deed") ∈ lw_all := lw_g (lw_at lw_m5 53 rfl) rfl
theorem q1959 : (Jvm.Cond.selects "TallySlate$For" ({ cls := "TallySlate$Deed", name := "act", desc := "(LTallySlate$Machine;)Z" } : Jvm.MethodName) ({ cls := "TallySlate$For", name := "act", desc := "(LTallySlate$Machine;)Z" } : Jvm.MethodName)) ∈ lw_all := lw_g (lw_at lw_m8 117 rfl) rfl
theorem q1960 : (Jvm.Cond.instanceMethod ({ cls := "TallySlate$For", name := "act", desc := "(LTallySlate$Machine;)Z" } : Jvm.MethodName)) ∈ lw_all := lw_g (lw_at lw_m8 118 rfl) rfl
theorem q1961 : (Jvm.Cond.code ({ cls := "TallySlate$For", name := "act", desc := "(LTallySlate$Machine;)Z" } : Jvm.MethodName) prog_10_method_2_code (5 : Nat) (Option.some Jvm.ClassFile.FieldType.boolean)) ∈ lw_all := lw_g (lw_at lw_m8 119 rfl) rfl
theorem q1962 : (Jvm.Cond.methodLink "TallySlate$For" (13 : Nat) ({ cls := "TallySlate$Node", name := "work", desc := "(LTallySlate$Machine;)V" } : Jvm.MethodName)) ∈ lw_all := lw_g (lw_at lw_m8 120 rfl) rfl
theorem q1963 : (Jvm.Cond.methodLink "TallySlate$For" (23 : Nat) ({ cls := "TallySlate$Machine", name := "rounds", desc := "(I)I" } : Jvm.MethodName)) ∈ lw_all := lw_g (lw_at lw_m8 121 rfl) rfl
theorem q1967 : (Jvm.Cond.methodLink "TallySlate$For" (32 : Nat) ({ cls := "TallySlate$Machine", name := "step", desc := "(I)V" } : Jvm.MethodName)) ∈ lw_all := lw_g (lw_at lw_m8 125 rfl) rfl
theorem q1968 : (Jvm.Cond.methodLink "TallySlate$For" (36 : Nat) ({ cls := "TallySlate$Machine", name := "item", desc := "(II)V" } : Jvm.MethodName)) ∈ lw_all := lw_g (lw_at lw_m8 126 rfl) rfl
theorem q1969 : (Jvm.Cond.methodLink "TallySlate$For" (43 : Nat) ({ cls := "TallySlate$Machine", name := "put", desc := "(I)V" } : Jvm.MethodName)) ∈ lw_all := lw_g (lw_at lw_m8 127 rfl) rfl
theorem q1970 : (Jvm.Cond.methodLink "TallySlate$For" (50 : Nat) ({ cls := "TallySlate$Block", name := "act", desc := "(LTallySlate$Machine;)Z" } : Jvm.MethodName)) ∈ lw_all := lw_g (lw_at lw_m8 128 rfl) rfl
theorem q1971 : (Jvm.Cond.methodLink "TallySlate$For" (56 : Nat) ({ cls := "TallySlate$Machine", name := "down", desc := "(I)V" } : Jvm.MethodName)) ∈ lw_all := lw_g (lw_at lw_m8 129 rfl) rfl
theorem q1972 : (Jvm.Cond.methodLink "TallySlate$For" (59 : Nat) ({ cls := "TallySlate$Machine", name := "drop", desc := "()V" } : Jvm.MethodName)) ∈ lw_all := lw_g (lw_at lw_m8 130 rfl) rfl
theorem q3039 : (Jvm.Cond.castable "TallySlate$For" "TallySlate$Deed") ∈ lw_tbl := lw_at lw_m12 237 rfl
theorem q201 : (Jvm.Cond.initialized "TallySlate$Plain") ∈ lw_all := lw_g (lw_at lw_m1 39 rfl) rfl
theorem q878 : (Jvm.Cond.fieldLink "TallySlate$Plain" (30 : Nat) "TallySlate$Plain" "place" "I") ∈ lw_all := lw_g (lw_at lw_m3 236 rfl) rfl
theorem q879 : (Jvm.Cond.sameField "TallySlate$Plain" "TallySlate$Deed" "place" "I") ∈ lw_all := lw_g (lw_at lw_m3 237 rfl) rfl
theorem q1189 : (Jvm.Cond.instanceMethod ({ cls := "TallySlate$Plain", name := "<init>", desc := "(I)V" } : Jvm.MethodName)) ∈ lw_all := lw_g (lw_at lw_m5 67 rfl) rfl
theorem q1190 : (Jvm.Cond.code ({ cls := "TallySlate$Plain", name := "<init>", desc := "(I)V" } : Jvm.MethodName) prog_22_method_1_code (2 : Nat) (Option.none : Option Jvm.ClassFile.FieldType)) ∈ lw_all := lw_g (lw_at lw_m5 68 rfl) rfl
theorem q1191 : (Jvm.Cond.methodLinkNest "TallySlate$Plain" (3 : Nat) ({ cls := "TallySlate$Deed", name := "<init>", desc := "()V" } : Jvm.MethodName) "TallySlate") ∈ lw_tbl := lw_at lw_m5 69 rfl
theorem q1192 : (Jvm.Cond.fieldLink "TallySlate$Plain" (9 : Nat) "TallySlate$Plain" "how" "I") ∈ lw_all := lw_g (lw_at lw_m5 70 rfl) rfl
theorem q1193 : (Jvm.Cond.fieldLink "TallySlate$Plain" (15 : Nat) "TallySlate$Plain" "what" "LTallySlate$Node;") ∈ lw_all := lw_g (lw_at lw_m5 71 rfl) rfl
theorem q1200 : (Jvm.Cond.superclass "TallySlate$Plain" "TallySlate$Deed") ∈ lw_all := lw_g (lw_at lw_m5 78 rfl) rfl
theorem q1986 : (Jvm.Cond.selects "TallySlate$Plain" ({ cls := "TallySlate$Deed", name := "act", desc := "(LTallySlate$Machine;)Z" } : Jvm.MethodName) ({ cls := "TallySlate$Plain", name := "act", desc := "(LTallySlate$Machine;)Z" } : Jvm.MethodName)) ∈ lw_all := lw_g (lw_at lw_m8 144 rfl) rfl
theorem q1987 : (Jvm.Cond.instanceMethod ({ cls := "TallySlate$Plain", name := "act", desc := "(LTallySlate$Machine;)Z" } : Jvm.MethodName)) ∈ lw_all := lw_g (lw_at lw_m8 145 rfl) rfl
theorem q1988 : (Jvm.Cond.code ({ cls := "TallySlate$Plain", name := "act", desc := "(LTallySlate$Machine;)Z" } : Jvm.MethodName) prog_22_method_2_code (2 : Nat) (Option.some Jvm.ClassFile.FieldType.boolean)) ∈ lw_all := lw_g (lw_at lw_m8 146 rfl) rfl
theorem q1989 : (Jvm.Cond.methodLink "TallySlate$Plain" (19 : Nat) ({ cls := "TallySlate$Node", name := "work", desc := "(LTallySlate$Machine;)V" } : Jvm.MethodName)) ∈ lw_all := lw_g (lw_at lw_m8 147 rfl) rfl
theorem q1990 : (Jvm.Cond.methodLink "TallySlate$Plain" (25 : Nat) ({ cls := "TallySlate$Machine", name := "say", desc := "()V" } : Jvm.MethodName)) ∈ lw_all := lw_g (lw_at lw_m8 148 rfl) rfl
theorem q2031 : (Jvm.Cond.methodLink "TallySlate$Plain" (33 : Nat) ({ cls := "TallySlate$Machine", name := "raise", desc := "(I)V" } : Jvm.MethodName)) ∈ lw_all := lw_g (lw_at lw_m8 189 rfl) rfl
theorem q2035 : (Jvm.Cond.methodLink "TallySlate$Plain" (37 : Nat) ({ cls := "TallySlate$Machine", name := "drop", desc := "()V" } : Jvm.MethodName)) ∈ lw_all := lw_g (lw_at lw_m8 193 rfl) rfl
theorem q3041 : (Jvm.Cond.castable "TallySlate$Plain" "TallySlate$Deed") ∈ lw_tbl := lw_at lw_m12 239 rfl
theorem q202 : (Jvm.Cond.initialized "TallySlate$Try") ∈ lw_all := lw_g (lw_at lw_m1 40 rfl) rfl
theorem q457 : (Jvm.Cond.fieldLinkNest "TallySlate$Try" (7 : Nat) "TallySlate$Machine" "top" "I" "TallySlate") ∈ lw_tbl := lw_at lw_m2 55 rfl
theorem q478 : (Jvm.Cond.fieldLinkNest "TallySlate$Try" (13 : Nat) "TallySlate$Machine" "calls" "I" "TallySlate") ∈ lw_tbl := lw_at lw_m2 76 rfl
theorem q1211 : (Jvm.Cond.instanceMethod ({ cls := "TallySlate$Try", name := "<init>", desc := "()V" } : Jvm.MethodName)) ∈ lw_all := lw_g (lw_at lw_m5 89 rfl) rfl
theorem q1212 : (Jvm.Cond.code ({ cls := "TallySlate$Try", name := "<init>", desc := "()V" } : Jvm.MethodName) prog_32_method_1_code (1 : Nat) (Option.none : Option Jvm.ClassFile.FieldType)) ∈ lw_all := lw_g (lw_at lw_m5 90 rfl) rfl
theorem q1213 : (Jvm.Cond.methodLinkNest "TallySlate$Try" (1 : Nat) ({ cls := "TallySlate$Deed", name := "<init>", desc := "()V" } : Jvm.MethodName) "TallySlate") ∈ lw_tbl := lw_at lw_m5 91 rfl
theorem q1214 : (Jvm.Cond.fieldLink "TallySlate$Try" (37 : Nat) "TallySlate$Try" "number" "I") ∈ lw_all := lw_g (lw_at lw_m5 92 rfl) rfl
theorem q1216 : (Jvm.Cond.fieldLink "TallySlate$Try" (30 : Nat) "TallySlate$Try" "onPlace" "I") ∈ lw_all := lw_g (lw_at lw_m5 94 rfl) rfl
theorem q1218 : (Jvm.Cond.fieldLink "TallySlate$Try" (16 : Nat) "TallySlate$Try" "body" "LTallySlate$Block;") ∈ lw_all := lw_g (lw_at lw_m5 96 rfl) rfl
theorem q1220 : (Jvm.Cond.fieldLink "TallySlate$Try" (44 : Nat) "TallySlate$Try" "otherwise" "LTallySlate$Block;") ∈ lw_all := lw_g (lw_at lw_m5 98 rfl) rfl
theorem q1231 : (Jvm.Cond.superclass "TallySlate$Try" "TallySlate$Deed") ∈ lw_all := lw_g (lw_at lw_m5 109 rfl) rfl
theorem q2036 : (Jvm.Cond.selects "TallySlate$Try" ({ cls := "TallySlate$Deed", name := "act", desc := "(LTallySlate$Machine;)Z" } : Jvm.MethodName) ({ cls := "TallySlate$Try", name := "act", desc := "(LTallySlate$Machine;)Z" } : Jvm.MethodName)) ∈ lw_all := lw_g (lw_at lw_m8 194 rfl) rfl
theorem q2037 : (Jvm.Cond.instanceMethod ({ cls := "TallySlate$Try", name := "act", desc := "(LTallySlate$Machine;)Z" } : Jvm.MethodName)) ∈ lw_all := lw_g (lw_at lw_m8 195 rfl) rfl
theorem q2038 : (Jvm.Cond.codeWith ({ cls := "TallySlate$Try", name := "act", desc := "(LTallySlate$Machine;)Z" } : Jvm.MethodName) prog_32_method_2_code (5 : Nat) (Option.some Jvm.ClassFile.FieldType.boolean) [((10 : Nat), (18 : Nat), (19 : Nat), (28 : Nat))]) ∈ lw_all := lw_g (lw_at lw_m8 196 rfl) rfl
theorem q2039 : (Jvm.Cond.classLink "TallySlate$Try" (28 : Nat) "TallySlate$Trouble") ∈ lw_all := lw_g (lw_at lw_m8 197 rfl) rfl
theorem q2040 : (Jvm.Cond.methodLink "TallySlate$Try" (22 : Nat) ({ cls := "TallySlate$Block", name := "act", desc := "(LTallySlate$Machine;)Z" } : Jvm.MethodName)) ∈ lw_all := lw_g (lw_at lw_m8 198 rfl) rfl
theorem q2041 : (Jvm.Cond.methodLink "TallySlate$Try" (33 : Nat) ({ cls := "TallySlate$Machine", name := "taken", desc := "(LTallySlate$Trouble;III)V" } : Jvm.MethodName)) ∈ lw_all := lw_g (lw_at lw_m8 199 rfl) rfl
theorem q2045 : (Jvm.Cond.methodLink "TallySlate$Try" (40 : Nat) ({ cls := "TallySlate$Machine", name := "put", desc := "(I)V" } : Jvm.MethodName)) ∈ lw_all := lw_g (lw_at lw_m8 203 rfl) rfl
theorem q3042 : (Jvm.Cond.castable "TallySlate$Try" "TallySlate$Deed") ∈ lw_tbl := lw_at lw_m13 0 rfl
theorem q169 : (Jvm.Cond.initialized "TallySlate$Machine") ∈ lw_all := lw_g (lw_at lw_m1 7 rfl) rfl
theorem q333 : (Jvm.Cond.instanceMethod ({ cls := "TallySlate$Machine", name := "<init>", desc := "()V" } : Jvm.MethodName)) ∈ lw_all := lw_g (lw_at lw_m1 171 rfl) rfl
theorem q334 : (Jvm.Cond.code ({ cls := "TallySlate$Machine", name := "<init>", desc := "()V" } : Jvm.MethodName) prog_13_method_1_code (1 : Nat) (Option.none : Option Jvm.ClassFile.FieldType)) ∈ lw_all := lw_g (lw_at lw_m1 172 rfl) rfl
theorem q335 : (Jvm.Cond.methodLink "TallySlate$Machine" (3 : Nat) ({ cls := "java/lang/Object", name := "<init>", desc := "()V" } : Jvm.MethodName)) ∈ lw_all := lw_g (lw_at lw_m1 173 rfl) rfl
theorem q336 : (Jvm.Cond.classLink "TallySlate$Machine" (15 : Nat) "TallySlate$Thing") ∈ lw_all := lw_g (lw_at lw_m1 174 rfl) rfl
theorem q338 : (Jvm.Cond.classLink "TallySlate$Machine" (31 : Nat) "TallySlate$Shelves") ∈ lw_all := lw_g (lw_at lw_m1 176 rfl) rfl
theorem q340 : (Jvm.Cond.methodLinkNest "TallySlate$Machine" (33 : Nat) ({ cls := "TallySlate$Shelves", name := "<init>", desc := "()V" } : Jvm.MethodName) "TallySlate") ∈ lw_tbl := lw_at lw_m1 178 rfl
theorem q346 : (Jvm.Cond.fieldLinkNest "TallySlate$Machine" (141 : Nat) "TallySlate$Shelves" "num" "[I" "TallySlate") ∈ lw_tbl := lw_at lw_m1 184 rfl
theorem q351 : (Jvm.Cond.fieldLinkNest "TallySlate$Machine" (142 : Nat) "TallySlate$Shelves" "thing" "[LTallySlate$Thing;" "TallySlate") ∈ lw_tbl := lw_at lw_m1 189 rfl
theorem q355 : (Jvm.Cond.fieldLinkNest "TallySlate$Machine" (138 : Nat) "TallySlate$Shelves" "there" "[Z" "TallySlate") ∈ lw_tbl := lw_at lw_m1 193 rfl
theorem q376 : (Jvm.Cond.classLink "TallySlate$Machine" (38 : Nat) "TallySlate$Signs") ∈ lw_all := lw_g (lw_at lw_m1 214 rfl) rfl
theorem q378 : (Jvm.Cond.methodLink "TallySlate$Machine" (40 : Nat) ({ cls := "TallySlate$Signs", name := "<init>", desc := "(LTallySlate$Machine;)V" } : Jvm.MethodName)) ∈ lw_all := lw_g (lw_at lw_m1 216 rfl) rfl
theorem q386 : (Jvm.Cond.classLink "TallySlate$Machine" (47 : Nat) "TallySlate$Maker") ∈ lw_all := lw_g (lw_at lw_m1 224 rfl) rfl
theorem q388 : (Jvm.Cond.methodLink "TallySlate$Machine" (49 : Nat) ({ cls := "TallySlate$Maker", name := "<init>", desc := "(LTallySlate$Machine;)V" } : Jvm.MethodName)) ∈ lw_all := lw_g (lw_at lw_m1 226 rfl) rfl
theorem q396 : (Jvm.Cond.classLink "TallySlate$Machine" (54 : Nat) "TallySlate$Works") ∈ lw_all := lw_g (lw_at lw_m1 234 rfl) rfl
theorem q398 : (Jvm.Cond.methodLink "TallySlate$Machine" (56 : Nat) ({ cls := "TallySlate$Works", name := "<init>", desc := "(LTallySlate$Machine;)V" } : Jvm.MethodName)) ∈ lw_all := lw_g (lw_at lw_m1 236 rfl) rfl
theorem q406 : (Jvm.Cond.classLink "TallySlate$Machine" (61 : Nat) "TallySlate$Output") ∈ lw_all := lw_g (lw_at lw_m2 4 rfl) rfl
theorem q408 : (Jvm.Cond.methodLinkNest "TallySlate$Machine" (63 : Nat) ({ cls := "TallySlate$Output", name := "<init>", desc := "()V" } : Jvm.MethodName) "TallySlate") ∈ lw_tbl := lw_at lw_m2 6 rfl
theorem q415 : (Jvm.Cond.fieldLinkNest "TallySlate$Machine" (97 : Nat) "TallySlate$Output" "many" "I" "TallySlate") ∈ lw_tbl := lw_at lw_m2 13 rfl
theorem q422 : (Jvm.Cond.classLink "TallySlate$Machine" (68 : Nat) "TallySlate$Trouble") ∈ lw_all := lw_g (lw_at lw_m2 20 rfl) rfl
theorem q431 : (Jvm.Cond.methodLinkNest "TallySlate$Machine" (70 : Nat) ({ cls := "TallySlate$Trouble", name := "<init>", desc := "()V" } : Jvm.MethodName) "TallySlate") ∈ lw_tbl := lw_at lw_m2 29 rfl
theorem q435 : (Jvm.Cond.fieldLinkNest "TallySlate$Machine" (100 : Nat) "TallySlate$Trouble" "kind" "I" "TallySlate") ∈ lw_tbl := lw_at lw_m2 33 rfl
theorem q437 : (Jvm.Cond.fieldLinkNest "TallySlate$Machine" (103 : Nat) "TallySlate$Trouble" "place" "I" "TallySlate") ∈ lw_tbl := lw_at lw_m2 35 rfl
theorem q439 : (Jvm.Cond.fieldLinkNest "TallySlate$Machine" (106 : Nat) "TallySlate$Trouble" "raised" "I" "TallySlate") ∈ lw_tbl := lw_at lw_m2 37 rfl
