/-! the words of the tables by their places (by program) -/
set_option maxRecDepth 100000
theorem q107 : (Jvm.Cond.initialized "CircuitDeskLaw") ∈ lw_all := lw_g (lw_at lw_m1 0 rfl) rfl
theorem q108 : (Jvm.Cond.initialized "CircuitDesk") ∈ lw_all := lw_g (lw_at lw_m1 1 rfl) rfl
theorem q109 : (Jvm.Cond.initialized "CircuitDesk$Net") ∈ lw_all := lw_g (lw_at lw_m1 2 rfl) rfl
theorem q110 : (Jvm.Cond.initialized "java/util/AbstractCollection") ∈ lw_all := lw_g (lw_at lw_m1 3 rfl) rfl
theorem q111 : (Jvm.Cond.initialized "java/util/AbstractList") ∈ lw_all := lw_g (lw_at lw_m1 4 rfl) rfl
theorem q112 : (Jvm.Cond.initialized "java/util/ArrayList") ∈ lw_all := lw_g (lw_at lw_m1 5 rfl) rfl
theorem q113 : (Jvm.Cond.initialized "java/lang/Throwable") ∈ lw_all := lw_g (lw_at lw_m1 6 rfl) rfl
theorem q114 : (Jvm.Cond.initialized "java/lang/Exception") ∈ lw_all := lw_g (lw_at lw_m1 7 rfl) rfl
theorem q115 : (Jvm.Cond.initialized "java/lang/RuntimeException") ∈ lw_all := lw_g (lw_at lw_m1 8 rfl) rfl
theorem q116 : (Jvm.Cond.initialized "java/lang/IllegalArgumentException") ∈ lw_all := lw_g (lw_at lw_m1 9 rfl) rfl
theorem q117 : (Jvm.Cond.initialized "java/lang/AbstractStringBuilder") ∈ lw_all := lw_g (lw_at lw_m1 10 rfl) rfl
theorem q118 : (Jvm.Cond.initialized "java/lang/StringBuilder") ∈ lw_all := lw_g (lw_at lw_m1 11 rfl) rfl
theorem q119 : (Jvm.Cond.initialized "java/lang/String") ∈ lw_all := lw_g (lw_at lw_m1 12 rfl) rfl
theorem q120 : (Jvm.Cond.initialized "java/lang/StringUTF16") ∈ lw_all := lw_g (lw_at lw_m1 13 rfl) rfl
theorem q121 : (Jvm.Cond.initialized "jdk/internal/util/ArraysSupport") ∈ lw_all := lw_g (lw_at lw_m1 14 rfl) rfl
theorem q122 : (Jvm.Cond.initialized "java/lang/Math") ∈ lw_all := lw_g (lw_at lw_m1 15 rfl) rfl
theorem q123 : (Jvm.Cond.initialized "java/util/Arrays") ∈ lw_all := lw_g (lw_at lw_m1 16 rfl) rfl
theorem q124 : (Jvm.Cond.initialized "java/lang/System") ∈ lw_all := lw_g (lw_at lw_m1 17 rfl) rfl
theorem q125 : (Jvm.Cond.initialized "jdk/internal/util/Preconditions") ∈ lw_all := lw_g (lw_at lw_m1 18 rfl) rfl
theorem q126 : (Jvm.Cond.initialized "java/lang/StringLatin1") ∈ lw_all := lw_g (lw_at lw_m1 19 rfl) rfl
theorem q127 : (Jvm.Cond.initialized "java/lang/Number") ∈ lw_all := lw_g (lw_at lw_m1 20 rfl) rfl
theorem q128 : (Jvm.Cond.initialized "java/lang/Integer") ∈ lw_all := lw_g (lw_at lw_m1 21 rfl) rfl
theorem q129 : (Jvm.Cond.initialized "CircuitDesk$Phase") ∈ lw_all := lw_g (lw_at lw_m1 22 rfl) rfl
theorem q130 : (Jvm.Cond.initialized "CircuitDesk$Resting") ∈ lw_all := lw_g (lw_at lw_m1 23 rfl) rfl
theorem q131 : (Jvm.Cond.initialized "CircuitDesk$Building") ∈ lw_all := lw_g (lw_at lw_m1 24 rfl) rfl
theorem q132 : (Jvm.Cond.initialized "CircuitDesk$Draining") ∈ lw_all := lw_g (lw_at lw_m1 25 rfl) rfl
theorem q133 : (Jvm.Cond.initialized "CircuitDesk$Clearing") ∈ lw_all := lw_g (lw_at lw_m1 26 rfl) rfl
theorem q134 : (Jvm.Cond.initialized "CircuitDesk$Way") ∈ lw_all := lw_g (lw_at lw_m1 27 rfl) rfl
theorem q135 : (Jvm.Cond.initialized "CircuitDeskModel") ∈ lw_all := lw_g (lw_at lw_m1 28 rfl) rfl
theorem q136 : (Jvm.Cond.initialized "java/lang/IllegalStateException") ∈ lw_all := lw_g (lw_at lw_m1 29 rfl) rfl
theorem q137 : (Jvm.Cond.initialized "CircuitDesk$Parser") ∈ lw_all := lw_g (lw_at lw_m1 30 rfl) rfl
theorem q138 : (Jvm.Cond.initialized "CircuitDesk$TextError") ∈ lw_all := lw_g (lw_at lw_m1 31 rfl) rfl
theorem q139 : (Jvm.Cond.initialized "CircuitDesk$Node") ∈ lw_all := lw_g (lw_at lw_m1 32 rfl) rfl
theorem q140 : (Jvm.Cond.initialized "java/util/Objects") ∈ lw_all := lw_g (lw_at lw_m1 33 rfl) rfl
theorem q141 : (Jvm.Cond.initialized "CircuitDesk$Link") ∈ lw_all := lw_g (lw_at lw_m1 34 rfl) rfl
theorem q142 : (Jvm.Cond.initialized "CircuitDesk$Circuit") ∈ lw_all := lw_g (lw_at lw_m1 35 rfl) rfl
theorem q143 : (Jvm.Cond.initialized "java/lang/IndexOutOfBoundsException") ∈ lw_all := lw_g (lw_at lw_m1 36 rfl) rfl
theorem q144 : (Jvm.Cond.initialized "java/lang/ArrayIndexOutOfBoundsException") ∈ lw_all := lw_g (lw_at lw_m1 37 rfl) rfl
theorem q145 : (Jvm.Cond.initialized "java/util/ArrayList$Itr") ∈ lw_all := lw_g (lw_at lw_m1 38 rfl) rfl
theorem q146 : (Jvm.Cond.initialized "CircuitDesk$Search") ∈ lw_all := lw_g (lw_at lw_m1 39 rfl) rfl
theorem q147 : (Jvm.Cond.initialized "CircuitDesk$Packet") ∈ lw_all := lw_g (lw_at lw_m1 40 rfl) rfl
theorem q148 : (Jvm.Cond.classLink "CircuitDeskLaw" (8 : Nat) "CircuitDesk") ∈ lw_all := lw_g (lw_at lw_m1 41 rfl) rfl
theorem q149 : (Jvm.Cond.instantiable "CircuitDesk" (7 : Nat)) ∈ lw_all := lw_g (lw_at lw_m1 42 rfl) rfl
theorem q150 : (Jvm.Cond.methodLink "CircuitDeskLaw" (110 : Nat) ({ cls := "CircuitDesk", name := "<init>", desc := "()V" } : Jvm.MethodName)) ∈ lw_all := lw_g (lw_at lw_m1 43 rfl) rfl
theorem q151 : (Jvm.Cond.instanceMethod ({ cls := "CircuitDesk", name := "<init>", desc := "()V" } : Jvm.MethodName)) ∈ lw_all := lw_g (lw_at lw_m1 44 rfl) rfl
theorem q152 : (Jvm.Cond.code ({ cls := "CircuitDesk", name := "<init>", desc := "()V" } : Jvm.MethodName) prog_1_method_5_code (1 : Nat) (Option.none : Option Jvm.ClassFile.FieldType)) ∈ lw_all := lw_g (lw_at lw_m1 45 rfl) rfl
theorem q153 : (Jvm.Cond.methodLink "CircuitDesk" (13 : Nat) ({ cls := "java/lang/Object", name := "<init>", desc := "()V" } : Jvm.MethodName)) ∈ lw_all := lw_g (lw_at lw_m1 46 rfl) rfl
theorem q154 : (Jvm.Cond.instanceMethod ({ cls := "java/lang/Object", name := "<init>", desc := "()V" } : Jvm.MethodName)) ∈ lw_all := lw_g (lw_at lw_m1 47 rfl) rfl
theorem q155 : (Jvm.Cond.code ({ cls := "java/lang/Object", name := "<init>", desc := "()V" } : Jvm.MethodName) object_method_1_code (1 : Nat) (Option.none : Option Jvm.ClassFile.FieldType)) ∈ lw_all := lw_g (lw_at lw_m1 48 rfl) rfl
theorem q156 : (Jvm.Cond.classLink "CircuitDesk" (16 : Nat) "CircuitDesk$Net") ∈ lw_all := lw_g (lw_at lw_m1 49 rfl) rfl
theorem q157 : (Jvm.Cond.instantiable "CircuitDesk$Net" (14 : Nat)) ∈ lw_all := lw_g (lw_at lw_m1 50 rfl) rfl
theorem q158 : (Jvm.Cond.methodLinkNest "CircuitDesk" (18 : Nat) ({ cls := "CircuitDesk$Net", name := "<init>", desc := "()V" } : Jvm.MethodName) "CircuitDesk") ∈ lw_tbl := lw_at lw_m1 51 rfl
theorem q159 : (Jvm.Cond.instanceMethod ({ cls := "CircuitDesk$Net", name := "<init>", desc := "()V" } : Jvm.MethodName)) ∈ lw_all := lw_g (lw_at lw_m1 52 rfl) rfl
theorem q160 : (Jvm.Cond.code ({ cls := "CircuitDesk$Net", name := "<init>", desc := "()V" } : Jvm.MethodName) prog_7_method_1_code (1 : Nat) (Option.none : Option Jvm.ClassFile.FieldType)) ∈ lw_all := lw_g (lw_at lw_m1 53 rfl) rfl
theorem q161 : (Jvm.Cond.methodLink "CircuitDesk$Net" (3 : Nat) ({ cls := "java/lang/Object", name := "<init>", desc := "()V" } : Jvm.MethodName)) ∈ lw_all := lw_g (lw_at lw_m1 54 rfl) rfl
theorem q162 : (Jvm.Cond.classLink "CircuitDesk$Net" (15 : Nat) "java/util/ArrayList") ∈ lw_all := lw_g (lw_at lw_m1 55 rfl) rfl
theorem q163 : (Jvm.Cond.instantiable "java/util/ArrayList" (3 : Nat)) ∈ lw_all := lw_g (lw_at lw_m1 56 rfl) rfl
theorem q164 : (Jvm.Cond.methodLink "CircuitDesk$Net" (17 : Nat) ({ cls := "java/util/ArrayList", name := "<init>", desc := "(I)V" } : Jvm.MethodName)) ∈ lw_all := lw_g (lw_at lw_m1 57 rfl) rfl
theorem q165 : (Jvm.Cond.instanceMethod ({ cls := "java/util/ArrayList", name := "<init>", desc := "(I)V" } : Jvm.MethodName)) ∈ lw_all := lw_g (lw_at lw_m1 58 rfl) rfl
theorem q166 : (Jvm.Cond.code ({ cls := "java/util/ArrayList", name := "<init>", desc := "(I)V" } : Jvm.MethodName) prog_45_method_1_code (2 : Nat) (Option.none : Option Jvm.ClassFile.FieldType)) ∈ lw_all := lw_g (lw_at lw_m1 59 rfl) rfl
theorem q167 : (Jvm.Cond.methodLink "java/util/ArrayList" (1 : Nat) ({ cls := "java/util/AbstractList", name := "<init>", desc := "()V" } : Jvm.MethodName)) ∈ lw_all := lw_g (lw_at lw_m1 60 rfl) rfl
theorem q168 : (Jvm.Cond.instanceMethod ({ cls := "java/util/AbstractList", name := "<init>", desc := "()V" } : Jvm.MethodName)) ∈ lw_all := lw_g (lw_at lw_m1 61 rfl) rfl
theorem q169 : (Jvm.Cond.code ({ cls := "java/util/AbstractList", name := "<init>", desc := "()V" } : Jvm.MethodName) prog_44_method_1_code (1 : Nat) (Option.none : Option Jvm.ClassFile.FieldType)) ∈ lw_all := lw_g (lw_at lw_m1 62 rfl) rfl
theorem q170 : (Jvm.Cond.methodLink "java/util/AbstractList" (1 : Nat) ({ cls := "java/util/AbstractCollection", name := "<init>", desc := "()V" } : Jvm.MethodName)) ∈ lw_all := lw_g (lw_at lw_m1 63 rfl) rfl
theorem q171 : (Jvm.Cond.instanceMethod ({ cls := "java/util/AbstractCollection", name := "<init>", desc := "()V" } : Jvm.MethodName)) ∈ lw_all := lw_g (lw_at lw_m1 64 rfl) rfl
theorem q172 : (Jvm.Cond.code ({ cls := "java/util/AbstractCollection", name := "<init>", desc := "()V" } : Jvm.MethodName) prog_43_method_1_code (1 : Nat) (Option.none : Option Jvm.ClassFile.FieldType)) ∈ lw_all := lw_g (lw_at lw_m1 65 rfl) rfl
theorem q173 : (Jvm.Cond.methodLink "java/util/AbstractCollection" (1 : Nat) ({ cls := "java/lang/Object", name := "<init>", desc := "()V" } : Jvm.MethodName)) ∈ lw_all := lw_g (lw_at lw_m1 66 rfl) rfl
theorem q174 : (Jvm.Cond.classLink "java/util/ArrayList" (7 : Nat) "java/lang/Object") ∈ lw_all := lw_g (lw_at lw_m1 67 rfl) rfl
theorem q175 : (Jvm.Cond.arrayOver (Jvm.ClassFile.FieldType.object "java/lang/Object")) ∈ lw_tbl := lw_at lw_m1 68 rfl
theorem q176 : (Jvm.Cond.fieldLink "java/util/ArrayList" (15 : Nat) "java/util/ArrayList" "EMPTY_ELEMENTDATA" "[Ljava/lang/Object;") ∈ lw_all := lw_g (lw_at lw_m1 69 rfl) rfl
theorem q177 : (Jvm.Cond.laysStatic "java/util/ArrayList" "EMPTY_ELEMENTDATA" "[Ljava/lang/Object;") ∈ lw_tbl := lw_at lw_m1 70 rfl
theorem q178 : (Jvm.Cond.classLink "java/util/ArrayList" (18 : Nat) "java/lang/IllegalArgumentException") ∈ lw_all := lw_g (lw_at lw_m1 71 rfl) rfl
theorem q179 : (Jvm.Cond.instantiable "java/lang/IllegalArgumentException" (6 : Nat)) ∈ lw_all := lw_g (lw_at lw_m1 72 rfl) rfl
theorem q180 : (Jvm.Cond.castable "java/lang/IllegalArgumentException" "java/lang/IllegalArgumentException") ∈ lw_tbl := lw_at lw_m1 73 rfl
theorem q181 : (Jvm.Cond.declares ({ cls := "java/lang/RuntimeException", name := "<init>", desc := "()V" } : Jvm.MethodName)) ∈ lw_tbl := lw_at lw_m1 74 rfl
theorem q182 : (Jvm.Cond.declares ({ cls := "java/lang/RuntimeException", name := "<init>", desc := "(Ljava/lang/String;)V" } : Jvm.MethodName)) ∈ lw_tbl := lw_at lw_m1 75 rfl
theorem q183 : (Jvm.Cond.declares ({ cls := "java/lang/Exception", name := "<init>", desc := "()V" } : Jvm.MethodName)) ∈ lw_tbl := lw_at lw_m1 76 rfl
theorem q184 : (Jvm.Cond.declares ({ cls := "java/lang/Exception", name := "<init>", desc := "(Ljava/lang/String;)V" } : Jvm.MethodName)) ∈ lw_tbl := lw_at lw_m1 77 rfl
theorem q185 : (Jvm.Cond.declares ({ cls := "java/lang/Throwable", name := "<init>", desc := "()V" } : Jvm.MethodName)) ∈ lw_tbl := lw_at lw_m1 78 rfl
theorem q186 : (Jvm.Cond.declares ({ cls := "java/lang/Throwable", name := "<init>", desc := "(Ljava/lang/String;)V" } : Jvm.MethodName)) ∈ lw_tbl := lw_at lw_m1 79 rfl
theorem q187 : (Jvm.Cond.selects "java/lang/IllegalArgumentException" ({ cls := "java/lang/Throwable", name := "fillInStackTrace", desc := "(I)Ljava/lang/Throwable;" } : Jvm.MethodName) ({ cls := "java/lang/Throwable", name := "fillInStackTrace", desc := "(I)Ljava/lang/Throwable;" } : Jvm.MethodName)) ∈ lw_all := lw_g (lw_at lw_m1 80 rfl) rfl
theorem q188 : (Jvm.Cond.selects "java/lang/IllegalArgumentException" ({ cls := "java/lang/Throwable", name := "fillInStackTrace", desc := "()Ljava/lang/Throwable;" } : Jvm.MethodName) ({ cls := "java/lang/Throwable", name := "fillInStackTrace", desc := "()Ljava/lang/Throwable;" } : Jvm.MethodName)) ∈ lw_all := lw_g (lw_at lw_m1 81 rfl) rfl
theorem q189 : (Jvm.Cond.lays "java/lang/IllegalArgumentException" "java/lang/Throwable" "cause" "Ljava/lang/Throwable;") ∈ lw_all := lw_g (lw_at lw_m1 82 rfl) rfl
theorem q190 : (Jvm.Cond.lays "java/lang/Throwable" "java/lang/Throwable" "cause" "Ljava/lang/Throwable;") ∈ lw_all := lw_g (lw_at lw_m1 83 rfl) rfl
theorem q191 : (Jvm.Cond.lays "java/lang/IllegalArgumentException" "java/lang/Throwable" "stackTrace" "[Ljava/lang/StackTraceElement;") ∈ lw_all := lw_g (lw_at lw_m1 84 rfl) rfl
theorem q192 : (Jvm.Cond.lays "java/lang/Throwable" "java/lang/Throwable" "stackTrace" "[Ljava/lang/StackTraceElement;") ∈ lw_all := lw_g (lw_at lw_m1 85 rfl) rfl
theorem q193 : (Jvm.Cond.lays "java/lang/IllegalArgumentException" "java/lang/Throwable" "suppressedExceptions" "Ljava/util/List;") ∈ lw_all := lw_g (lw_at lw_m1 86 rfl) rfl
theorem q194 : (Jvm.Cond.lays "java/lang/Throwable" "java/lang/Throwable" "suppressedExceptions" "Ljava/util/List;") ∈ lw_all := lw_g (lw_at lw_m1 87 rfl) rfl
theorem q195 : (Jvm.Cond.lays "java/lang/IllegalArgumentException" "java/lang/Throwable" "detailMessage" "Ljava/lang/String;") ∈ lw_all := lw_g (lw_at lw_m1 88 rfl) rfl
theorem q196 : (Jvm.Cond.lays "java/lang/Throwable" "java/lang/Throwable" "detailMessage" "Ljava/lang/String;") ∈ lw_all := lw_g (lw_at lw_m1 89 rfl) rfl
theorem q197 : (Jvm.Cond.lays "java/lang/IllegalArgumentException" "java/lang/Throwable" "backtrace" "Ljava/lang/Object;") ∈ lw_all := lw_g (lw_at lw_m1 90 rfl) rfl
theorem q198 : (Jvm.Cond.lays "java/lang/Throwable" "java/lang/Throwable" "backtrace" "Ljava/lang/Object;") ∈ lw_all := lw_g (lw_at lw_m1 91 rfl) rfl
theorem q199 : (Jvm.Cond.fieldLink "java/lang/Throwable" (198 : Nat) "java/lang/Throwable" "backtrace" "Ljava/lang/Object;") ∈ lw_all := lw_g (lw_at lw_m1 92 rfl) rfl
theorem q200 : (Jvm.Cond.superclass "java/lang/Throwable" "java/lang/Object") ∈ lw_all := lw_g (lw_at lw_m1 93 rfl) rfl
theorem q201 : (Jvm.Cond.instanceMethod ({ cls := "java/lang/Throwable", name := "<init>", desc := "()V" } : Jvm.MethodName)) ∈ lw_all := lw_g (lw_at lw_m1 94 rfl) rfl
theorem q202 : (Jvm.Cond.code ({ cls := "java/lang/Throwable", name := "<init>", desc := "()V" } : Jvm.MethodName) prog_40_method_1_code (1 : Nat) (Option.none : Option Jvm.ClassFile.FieldType)) ∈ lw_all := lw_g (lw_at lw_m1 95 rfl) rfl
theorem q203 : (Jvm.Cond.methodLink "java/lang/Throwable" (1 : Nat) ({ cls := "java/lang/Object", name := "<init>", desc := "()V" } : Jvm.MethodName)) ∈ lw_all := lw_g (lw_at lw_m1 96 rfl) rfl
theorem q204 : (Jvm.Cond.fieldLink "java/lang/Throwable" (13 : Nat) "java/lang/Throwable" "UNASSIGNED_STACK" "[Ljava/lang/StackTraceElement;") ∈ lw_all := lw_g (lw_at lw_m1 97 rfl) rfl
theorem q205 : (Jvm.Cond.laysStatic "java/lang/Throwable" "UNASSIGNED_STACK" "[Ljava/lang/StackTraceElement;") ∈ lw_tbl := lw_at lw_m1 98 rfl
theorem q206 : (Jvm.Cond.fieldLink "java/lang/Throwable" (20 : Nat) "java/lang/Throwable" "SUPPRESSED_SENTINEL" "Ljava/util/List;") ∈ lw_all := lw_g (lw_at lw_m1 99 rfl) rfl
theorem q207 : (Jvm.Cond.laysStatic "java/lang/Throwable" "SUPPRESSED_SENTINEL" "Ljava/util/List;") ∈ lw_tbl := lw_at lw_m1 100 rfl
theorem q208 : (Jvm.Cond.methodLink "java/lang/Throwable" (27 : Nat) ({ cls := "java/lang/Throwable", name := "fillInStackTrace", desc := "()Ljava/lang/Throwable;" } : Jvm.MethodName)) ∈ lw_all := lw_g (lw_at lw_m1 101 rfl) rfl
theorem q209 : (Jvm.Cond.instanceMethod ({ cls := "java/lang/Throwable", name := "fillInStackTrace", desc := "()Ljava/lang/Throwable;" } : Jvm.MethodName)) ∈ lw_all := lw_g (lw_at lw_m1 102 rfl) rfl
theorem q210 : (Jvm.Cond.sameMethod "java/lang/Throwable" "java/lang/Throwable" "fillInStackTrace" "()Ljava/lang/Throwable;") ∈ lw_all := lw_g (lw_at lw_m1 103 rfl) rfl
theorem q211 : (Jvm.Cond.selects "CircuitDesk$TextError" ({ cls := "java/lang/Throwable", name := "fillInStackTrace", desc := "()Ljava/lang/Throwable;" } : Jvm.MethodName) ({ cls := "java/lang/Throwable", name := "fillInStackTrace", desc := "()Ljava/lang/Throwable;" } : Jvm.MethodName)) ∈ lw_all := lw_g (lw_at lw_m1 104 rfl) rfl
theorem q212 : (Jvm.Cond.selects "java/lang/ArrayIndexOutOfBoundsException" ({ cls := "java/lang/Throwable", name := "fillInStackTrace", desc := "()Ljava/lang/Throwable;" } : Jvm.MethodName) ({ cls := "java/lang/Throwable", name := "fillInStackTrace", desc := "()Ljava/lang/Throwable;" } : Jvm.MethodName)) ∈ lw_all := lw_g (lw_at lw_m1 105 rfl) rfl
theorem q213 : (Jvm.Cond.selects "java/lang/IllegalStateException" ({ cls := "java/lang/Throwable", name := "fillInStackTrace", desc := "()Ljava/lang/Throwable;" } : Jvm.MethodName) ({ cls := "java/lang/Throwable", name := "fillInStackTrace", desc := "()Ljava/lang/Throwable;" } : Jvm.MethodName)) ∈ lw_all := lw_g (lw_at lw_m1 106 rfl) rfl
theorem q214 : (Jvm.Cond.selects "java/lang/IndexOutOfBoundsException" ({ cls := "java/lang/Throwable", name := "fillInStackTrace", desc := "()Ljava/lang/Throwable;" } : Jvm.MethodName) ({ cls := "java/lang/Throwable", name := "fillInStackTrace", desc := "()Ljava/lang/Throwable;" } : Jvm.MethodName)) ∈ lw_all := lw_g (lw_at lw_m1 107 rfl) rfl
theorem q215 : (Jvm.Cond.codeSync ({ cls := "java/lang/Throwable", name := "fillInStackTrace", desc := "()Ljava/lang/Throwable;" } : Jvm.MethodName) prog_40_method_18_code (1 : Nat) (Option.some (Jvm.ClassFile.FieldType.object "java/lang/Throwable"))) ∈ lw_all := lw_g (lw_at lw_m1 108 rfl) rfl
theorem q216 : (Jvm.Cond.methodLink "java/lang/Throwable" (202 : Nat) ({ cls := "java/lang/Throwable", name := "fillInStackTrace", desc := "(I)Ljava/lang/Throwable;" } : Jvm.MethodName)) ∈ lw_all := lw_g (lw_at lw_m1 109 rfl) rfl
theorem q217 : (Jvm.Cond.privateMethod ({ cls := "java/lang/Throwable", name := "fillInStackTrace", desc := "(I)Ljava/lang/Throwable;" } : Jvm.MethodName)) ∈ lw_tbl := lw_at lw_m1 110 rfl
theorem q218 : (Jvm.Cond.instanceMethod ({ cls := "java/lang/Throwable", name := "fillInStackTrace", desc := "(I)Ljava/lang/Throwable;" } : Jvm.MethodName)) ∈ lw_all := lw_g (lw_at lw_m1 111 rfl) rfl
theorem q219 : (Jvm.Cond.instantiable "java/lang/Throwable" (6 : Nat)) ∈ lw_all := lw_g (lw_at lw_m1 112 rfl) rfl
theorem q220 : (Jvm.Cond.native ({ cls := "java/lang/Throwable", name := "fillInStackTrace", desc := "(I)Ljava/lang/Throwable;" } : Jvm.MethodName)) ∈ lw_all := lw_g (lw_at lw_m1 113 rfl) rfl
theorem q221 : (Jvm.Cond.classLink "java/util/ArrayList" (20 : Nat) "java/lang/StringBuilder") ∈ lw_all := lw_g (lw_at lw_m1 114 rfl) rfl
theorem q222 : (Jvm.Cond.instantiable "java/lang/StringBuilder" (4 : Nat)) ∈ lw_all := lw_g (lw_at lw_m1 115 rfl) rfl
theorem q223 : (Jvm.Cond.methodLink "java/util/ArrayList" (22 : Nat) ({ cls := "java/lang/StringBuilder", name := "<init>", desc := "()V" } : Jvm.MethodName)) ∈ lw_all := lw_g (lw_at lw_m1 116 rfl) rfl
theorem q224 : (Jvm.Cond.instanceMethod ({ cls := "java/lang/StringBuilder", name := "<init>", desc := "()V" } : Jvm.MethodName)) ∈ lw_all := lw_g (lw_at lw_m1 117 rfl) rfl
theorem q225 : (Jvm.Cond.code ({ cls := "java/lang/StringBuilder", name := "<init>", desc := "()V" } : Jvm.MethodName) prog_35_method_1_code (1 : Nat) (Option.none : Option Jvm.ClassFile.FieldType)) ∈ lw_all := lw_g (lw_at lw_m1 118 rfl) rfl
theorem q226 : (Jvm.Cond.methodLink "java/lang/StringBuilder" (1 : Nat) ({ cls := "java/lang/AbstractStringBuilder", name := "<init>", desc := "(I)V" } : Jvm.MethodName)) ∈ lw_all := lw_g (lw_at lw_m1 119 rfl) rfl
theorem q227 : (Jvm.Cond.instanceMethod ({ cls := "java/lang/AbstractStringBuilder", name := "<init>", desc := "(I)V" } : Jvm.MethodName)) ∈ lw_all := lw_g (lw_at lw_m1 120 rfl) rfl
theorem q228 : (Jvm.Cond.code ({ cls := "java/lang/AbstractStringBuilder", name := "<init>", desc := "(I)V" } : Jvm.MethodName) prog_19_method_2_code (2 : Nat) (Option.none : Option Jvm.ClassFile.FieldType)) ∈ lw_all := lw_g (lw_at lw_m1 121 rfl) rfl
theorem q229 : (Jvm.Cond.methodLink "java/lang/AbstractStringBuilder" (3 : Nat) ({ cls := "java/lang/Object", name := "<init>", desc := "()V" } : Jvm.MethodName)) ∈ lw_all := lw_g (lw_at lw_m1 122 rfl) rfl
theorem q230 : (Jvm.Cond.fieldLink "java/lang/AbstractStringBuilder" (18 : Nat) "java/lang/String" "COMPACT_STRINGS" "Z") ∈ lw_all := lw_g (lw_at lw_m1 123 rfl) rfl
theorem q231 : (Jvm.Cond.laysStatic "java/lang/String" "COMPACT_STRINGS" "Z") ∈ lw_tbl := lw_at lw_m1 124 rfl
theorem q232 : (Jvm.Cond.methodLink "java/lang/AbstractStringBuilder" (26 : Nat) ({ cls := "java/lang/StringUTF16", name := "newBytesFor", desc := "(I)[B" } : Jvm.MethodName)) ∈ lw_all := lw_g (lw_at lw_m1 125 rfl) rfl
theorem q233 : (Jvm.Cond.static ({ cls := "java/lang/StringUTF16", name := "newBytesFor", desc := "(I)[B" } : Jvm.MethodName)) ∈ lw_all := lw_g (lw_at lw_m1 126 rfl) rfl
theorem q234 : (Jvm.Cond.code ({ cls := "java/lang/StringUTF16", name := "newBytesFor", desc := "(I)[B" } : Jvm.MethodName) prog_37_method_2_code (1 : Nat) (Option.some (Jvm.ClassFile.FieldType.array Jvm.ClassFile.FieldType.byte))) ∈ lw_all := lw_g (lw_at lw_m1 127 rfl) rfl
theorem q235 : (Jvm.Cond.methodLink "java/lang/StringUTF16" (11 : Nat) ({ cls := "java/lang/StringUTF16", name := "newBytesLength", desc := "(I)I" } : Jvm.MethodName)) ∈ lw_all := lw_g (lw_at lw_m1 128 rfl) rfl
theorem q236 : (Jvm.Cond.static ({ cls := "java/lang/StringUTF16", name := "newBytesLength", desc := "(I)I" } : Jvm.MethodName)) ∈ lw_all := lw_g (lw_at lw_m1 129 rfl) rfl
theorem q237 : (Jvm.Cond.code ({ cls := "java/lang/StringUTF16", name := "newBytesLength", desc := "(I)I" } : Jvm.MethodName) prog_37_method_3_code (1 : Nat) (Option.some Jvm.ClassFile.FieldType.int)) ∈ lw_all := lw_g (lw_at lw_m1 130 rfl) rfl
theorem q238 : (Jvm.Cond.constant "java/lang/StringUTF16" (20 : Nat) (1073741823 : Int32)) ∈ lw_all := lw_g (lw_at lw_m1 131 rfl) rfl
theorem q239 : (Jvm.Cond.fieldLink "java/lang/AbstractStringBuilder" (15 : Nat) "java/lang/AbstractStringBuilder" "value" "[B") ∈ lw_all := lw_g (lw_at lw_m1 132 rfl) rfl
theorem q240 : (Jvm.Cond.fieldLink "java/lang/AbstractStringBuilder" (22 : Nat) "java/lang/AbstractStringBuilder" "coder" "B") ∈ lw_all := lw_g (lw_at lw_m1 133 rfl) rfl
theorem q241 : (Jvm.Cond.fieldLink "java/lang/String" (1048 : Nat) "java/lang/AbstractStringBuilder" "maybeLatin1" "Z") ∈ lw_all := lw_g (lw_at lw_m1 134 rfl) rfl
theorem q242 : (Jvm.Cond.fieldLink "java/lang/AbstractStringBuilder" (79 : Nat) "java/lang/AbstractStringBuilder" "count" "I") ∈ lw_all := lw_g (lw_at lw_m1 135 rfl) rfl
theorem q243 : (Jvm.Cond.lays "java/lang/StringBuilder" "java/lang/AbstractStringBuilder" "value" "[B") ∈ lw_all := lw_g (lw_at lw_m1 136 rfl) rfl
theorem q244 : (Jvm.Cond.soleField "java/lang/AbstractStringBuilder" "value") ∈ lw_all := lw_g (lw_at lw_m1 137 rfl) rfl
theorem q245 : (Jvm.Cond.lays "java/lang/StringBuilder" "java/lang/AbstractStringBuilder" "coder" "B") ∈ lw_all := lw_g (lw_at lw_m1 138 rfl) rfl
theorem q246 : (Jvm.Cond.soleField "java/lang/AbstractStringBuilder" "coder") ∈ lw_all := lw_g (lw_at lw_m1 139 rfl) rfl
theorem q247 : (Jvm.Cond.lays "java/lang/StringBuilder" "java/lang/AbstractStringBuilder" "maybeLatin1" "Z") ∈ lw_all := lw_g (lw_at lw_m1 140 rfl) rfl
theorem q248 : (Jvm.Cond.soleField "java/lang/AbstractStringBuilder" "maybeLatin1") ∈ lw_all := lw_g (lw_at lw_m1 141 rfl) rfl
theorem q249 : (Jvm.Cond.lays "java/lang/StringBuilder" "java/lang/AbstractStringBuilder" "count" "I") ∈ lw_all := lw_g (lw_at lw_m1 142 rfl) rfl
theorem q250 : (Jvm.Cond.soleField "java/lang/AbstractStringBuilder" "count") ∈ lw_all := lw_g (lw_at lw_m1 143 rfl) rfl
theorem q251 : (Jvm.Cond.superclass "java/lang/StringBuilder" "java/lang/AbstractStringBuilder") ∈ lw_all := lw_g (lw_at lw_m1 144 rfl) rfl
theorem q252 : (Jvm.Cond.arrayClass Jvm.ClassFile.FieldType.int) ∈ lw_all := lw_g (lw_at lw_m1 145 rfl) rfl
theorem q253 : (Jvm.Cond.arrayClass Jvm.ClassFile.FieldType.byte) ∈ lw_all := lw_g (lw_at lw_m1 146 rfl) rfl
theorem q254 : (Jvm.Cond.stringRef "java/util/ArrayList" (23 : Nat) "Illegal Capacity: ") ∈ lw_tbl := lw_at lw_m1 147 rfl
theorem q255 : (Jvm.Cond.methodLink "java/util/ArrayList" (25 : Nat) ({ cls := "java/lang/StringBuilder", name := "append", desc := "(Ljava/lang/String;)Ljava/lang/StringBuilder;" } : Jvm.MethodName)) ∈ lw_all := lw_g (lw_at lw_m1 148 rfl) rfl
theorem q256 : (Jvm.Cond.instanceMethod ({ cls := "java/lang/StringBuilder", name := "append", desc := "(Ljava/lang/String;)Ljava/lang/StringBuilder;" } : Jvm.MethodName)) ∈ lw_all := lw_g (lw_at lw_m1 149 rfl) rfl
theorem q257 : (Jvm.Cond.selects "java/lang/StringBuilder" ({ cls := "java/lang/StringBuilder", name := "append", desc := "(Ljava/lang/String;)Ljava/lang/StringBuilder;" } : Jvm.MethodName) ({ cls := "java/lang/StringBuilder", name := "append", desc := "(Ljava/lang/String;)Ljava/lang/StringBuilder;" } : Jvm.MethodName)) ∈ lw_all := lw_g (lw_at lw_m1 150 rfl) rfl
theorem q258 : (Jvm.Cond.code ({ cls := "java/lang/StringBuilder", name := "append", desc := "(Ljava/lang/String;)Ljava/lang/StringBuilder;" } : Jvm.MethodName) prog_35_method_7_code (2 : Nat) (Option.some (Jvm.ClassFile.FieldType.object "java/lang/StringBuilder"))) ∈ lw_all := lw_g (lw_at lw_m1 151 rfl) rfl
theorem q259 : (Jvm.Cond.methodLink "java/lang/StringBuilder" (29 : Nat) ({ cls := "java/lang/AbstractStringBuilder", name := "append", desc := "(Ljava/lang/String;)Ljava/lang/AbstractStringBuilder;" } : Jvm.MethodName)) ∈ lw_all := lw_g (lw_at lw_m1 152 rfl) rfl
theorem q260 : (Jvm.Cond.instanceMethod ({ cls := "java/lang/AbstractStringBuilder", name := "append", desc := "(Ljava/lang/String;)Ljava/lang/AbstractStringBuilder;" } : Jvm.MethodName)) ∈ lw_all := lw_g (lw_at lw_m1 153 rfl) rfl
theorem q261 : (Jvm.Cond.code ({ cls := "java/lang/AbstractStringBuilder", name := "append", desc := "(Ljava/lang/String;)Ljava/lang/AbstractStringBuilder;" } : Jvm.MethodName) prog_19_method_22_code (3 : Nat) (Option.some (Jvm.ClassFile.FieldType.object "java/lang/AbstractStringBuilder"))) ∈ lw_all := lw_g (lw_at lw_m1 154 rfl) rfl
theorem q262 : (Jvm.Cond.methodLink "java/lang/AbstractStringBuilder" (204 : Nat) ({ cls := "java/lang/AbstractStringBuilder", name := "appendNull", desc := "()Ljava/lang/AbstractStringBuilder;" } : Jvm.MethodName)) ∈ lw_all := lw_g (lw_at lw_m1 155 rfl) rfl
theorem q263 : (Jvm.Cond.privateMethod ({ cls := "java/lang/AbstractStringBuilder", name := "appendNull", desc := "()Ljava/lang/AbstractStringBuilder;" } : Jvm.MethodName)) ∈ lw_tbl := lw_at lw_m1 156 rfl
theorem q264 : (Jvm.Cond.instanceMethod ({ cls := "java/lang/AbstractStringBuilder", name := "appendNull", desc := "()Ljava/lang/AbstractStringBuilder;" } : Jvm.MethodName)) ∈ lw_all := lw_g (lw_at lw_m1 157 rfl) rfl
theorem q265 : (Jvm.Cond.code ({ cls := "java/lang/AbstractStringBuilder", name := "appendNull", desc := "()Ljava/lang/AbstractStringBuilder;" } : Jvm.MethodName) prog_19_method_26_code (3 : Nat) (Option.some (Jvm.ClassFile.FieldType.object "java/lang/AbstractStringBuilder"))) ∈ lw_all := lw_g (lw_at lw_m1 158 rfl) rfl
theorem q266 : (Jvm.Cond.methodLink "java/lang/AbstractStringBuilder" (100 : Nat) ({ cls := "java/lang/AbstractStringBuilder", name := "ensureCapacityInternal", desc := "(I)V" } : Jvm.MethodName)) ∈ lw_all := lw_g (lw_at lw_m1 159 rfl) rfl
theorem q267 : (Jvm.Cond.privateMethod ({ cls := "java/lang/AbstractStringBuilder", name := "ensureCapacityInternal", desc := "(I)V" } : Jvm.MethodName)) ∈ lw_tbl := lw_at lw_m1 160 rfl
theorem q268 : (Jvm.Cond.instanceMethod ({ cls := "java/lang/AbstractStringBuilder", name := "ensureCapacityInternal", desc := "(I)V" } : Jvm.MethodName)) ∈ lw_all := lw_g (lw_at lw_m1 161 rfl) rfl
theorem q269 : (Jvm.Cond.code ({ cls := "java/lang/AbstractStringBuilder", name := "ensureCapacityInternal", desc := "(I)V" } : Jvm.MethodName) prog_19_method_9_code (3 : Nat) (Option.none : Option Jvm.ClassFile.FieldType)) ∈ lw_all := lw_g (lw_at lw_m1 162 rfl) rfl
theorem q270 : (Jvm.Cond.methodLink "java/lang/AbstractStringBuilder" (104 : Nat) ({ cls := "java/lang/AbstractStringBuilder", name := "newCapacity", desc := "(I)I" } : Jvm.MethodName)) ∈ lw_all := lw_g (lw_at lw_m1 163 rfl) rfl
theorem q271 : (Jvm.Cond.privateMethod ({ cls := "java/lang/AbstractStringBuilder", name := "newCapacity", desc := "(I)I" } : Jvm.MethodName)) ∈ lw_tbl := lw_at lw_m1 164 rfl
theorem q272 : (Jvm.Cond.instanceMethod ({ cls := "java/lang/AbstractStringBuilder", name := "newCapacity", desc := "(I)I" } : Jvm.MethodName)) ∈ lw_all := lw_g (lw_at lw_m1 165 rfl) rfl
theorem q273 : (Jvm.Cond.code ({ cls := "java/lang/AbstractStringBuilder", name := "newCapacity", desc := "(I)I" } : Jvm.MethodName) prog_19_method_10_code (6 : Nat) (Option.some Jvm.ClassFile.FieldType.int)) ∈ lw_all := lw_g (lw_at lw_m1 166 rfl) rfl
theorem q274 : (Jvm.Cond.methodLink "java/lang/AbstractStringBuilder" (114 : Nat) ({ cls := "jdk/internal/util/ArraysSupport", name := "newLength", desc := "(III)I" } : Jvm.MethodName)) ∈ lw_all := lw_g (lw_at lw_m1 167 rfl) rfl
theorem q275 : (Jvm.Cond.static ({ cls := "jdk/internal/util/ArraysSupport", name := "newLength", desc := "(III)I" } : Jvm.MethodName)) ∈ lw_all := lw_g (lw_at lw_m1 168 rfl) rfl
theorem q276 : (Jvm.Cond.code ({ cls := "jdk/internal/util/ArraysSupport", name := "newLength", desc := "(III)I" } : Jvm.MethodName) prog_55_method_27_code (4 : Nat) (Option.some Jvm.ClassFile.FieldType.int)) ∈ lw_all := lw_g (lw_at lw_m1 169 rfl) rfl
theorem q277 : (Jvm.Cond.methodLink "jdk/internal/util/ArraysSupport" (194 : Nat) ({ cls := "java/lang/Math", name := "max", desc := "(II)I" } : Jvm.MethodName)) ∈ lw_all := lw_g (lw_at lw_m1 170 rfl) rfl
theorem q278 : (Jvm.Cond.static ({ cls := "java/lang/Math", name := "max", desc := "(II)I" } : Jvm.MethodName)) ∈ lw_all := lw_g (lw_at lw_m1 171 rfl) rfl
theorem q279 : (Jvm.Cond.code ({ cls := "java/lang/Math", name := "max", desc := "(II)I" } : Jvm.MethodName) prog_31_method_65_code (2 : Nat) (Option.some Jvm.ClassFile.FieldType.int)) ∈ lw_all := lw_g (lw_at lw_m1 172 rfl) rfl
theorem q280 : (Jvm.Cond.constant "jdk/internal/util/ArraysSupport" (200 : Nat) (2147483639 : Int32)) ∈ lw_all := lw_g (lw_at lw_m1 173 rfl) rfl
theorem q281 : (Jvm.Cond.methodLink "jdk/internal/util/ArraysSupport" (201 : Nat) ({ cls := "jdk/internal/util/ArraysSupport", name := "hugeLength", desc := "(II)I" } : Jvm.MethodName)) ∈ lw_all := lw_g (lw_at lw_m1 174 rfl) rfl
theorem q282 : (Jvm.Cond.static ({ cls := "jdk/internal/util/ArraysSupport", name := "hugeLength", desc := "(II)I" } : Jvm.MethodName)) ∈ lw_all := lw_g (lw_at lw_m1 175 rfl) rfl
theorem q283 : (Jvm.Cond.code ({ cls := "jdk/internal/util/ArraysSupport", name := "hugeLength", desc := "(II)I" } : Jvm.MethodName) prog_55_method_28_code (3 : Nat) (Option.some Jvm.ClassFile.FieldType.int)) ∈ lw_all := lw_g (lw_at lw_m1 176 rfl) rfl
theorem q284 : (Jvm.Cond.constant "java/lang/AbstractStringBuilder" (39 : Nat) (2147483647 : Int32)) ∈ lw_all := lw_g (lw_at lw_m1 177 rfl) rfl
theorem q285 : (Jvm.Cond.methodLink "java/lang/AbstractStringBuilder" (108 : Nat) ({ cls := "java/util/Arrays", name := "copyOf", desc := "([BI)[B" } : Jvm.MethodName)) ∈ lw_all := lw_g (lw_at lw_m1 178 rfl) rfl
theorem q286 : (Jvm.Cond.static ({ cls := "java/util/Arrays", name := "copyOf", desc := "([BI)[B" } : Jvm.MethodName)) ∈ lw_all := lw_g (lw_at lw_m1 179 rfl) rfl
theorem q287 : (Jvm.Cond.code ({ cls := "java/util/Arrays", name := "copyOf", desc := "([BI)[B" } : Jvm.MethodName) prog_47_method_121_code (3 : Nat) (Option.some (Jvm.ClassFile.FieldType.array Jvm.ClassFile.FieldType.byte))) ∈ lw_all := lw_g (lw_at lw_m1 180 rfl) rfl
theorem q288 : (Jvm.Cond.methodLink "java/util/Arrays" (310 : Nat) ({ cls := "[B", name := "clone", desc := "()Ljava/lang/Object;" } : Jvm.MethodName)) ∈ lw_all := lw_g (lw_at lw_m1 181 rfl) rfl
theorem q289 : (Jvm.Cond.sameMethod "[B" "java/lang/Object" "clone" "()Ljava/lang/Object;") ∈ lw_all := lw_g (lw_at lw_m1 182 rfl) rfl
theorem q290 : (Jvm.Cond.native ({ cls := "java/lang/Object", name := "clone", desc := "()Ljava/lang/Object;" } : Jvm.MethodName)) ∈ lw_all := lw_g (lw_at lw_m1 183 rfl) rfl
theorem q291 : (Jvm.Cond.instanceMethod ({ cls := "java/lang/Object", name := "clone", desc := "()Ljava/lang/Object;" } : Jvm.MethodName)) ∈ lw_all := lw_g (lw_at lw_m1 184 rfl) rfl
theorem q292 : (Jvm.Cond.selects "[B" ({ cls := "[B", name := "clone", desc := "()Ljava/lang/Object;" } : Jvm.MethodName) ({ cls := "java/lang/Object", name := "clone", desc := "()Ljava/lang/Object;" } : Jvm.MethodName)) ∈ lw_all := lw_g (lw_at lw_m1 185 rfl) rfl
theorem q293 : (Jvm.Cond.castable "[B" "java/lang/Cloneable") ∈ lw_tbl := lw_at lw_m1 186 rfl
theorem q294 : (Jvm.Cond.classLink "java/util/Arrays" (311 : Nat) "[B") ∈ lw_all := lw_g (lw_at lw_m1 187 rfl) rfl
theorem q295 : (Jvm.Cond.methodLink "java/util/Arrays" (304 : Nat) ({ cls := "java/lang/Math", name := "min", desc := "(II)I" } : Jvm.MethodName)) ∈ lw_all := lw_g (lw_at lw_m1 188 rfl) rfl
theorem q296 : (Jvm.Cond.static ({ cls := "java/lang/Math", name := "min", desc := "(II)I" } : Jvm.MethodName)) ∈ lw_all := lw_g (lw_at lw_m1 189 rfl) rfl
theorem q297 : (Jvm.Cond.code ({ cls := "java/lang/Math", name := "min", desc := "(II)I" } : Jvm.MethodName) prog_31_method_69_code (2 : Nat) (Option.some Jvm.ClassFile.FieldType.int)) ∈ lw_all := lw_g (lw_at lw_m1 190 rfl) rfl
theorem q298 : (Jvm.Cond.methodLink "java/util/Arrays" (150 : Nat) ({ cls := "java/lang/System", name := "arraycopy", desc := "(Ljava/lang/Object;ILjava/lang/Object;II)V" } : Jvm.MethodName)) ∈ lw_all := lw_g (lw_at lw_m1 191 rfl) rfl
theorem q299 : (Jvm.Cond.static ({ cls := "java/lang/System", name := "arraycopy", desc := "(Ljava/lang/Object;ILjava/lang/Object;II)V" } : Jvm.MethodName)) ∈ lw_all := lw_g (lw_at lw_m1 192 rfl) rfl
theorem q300 : (Jvm.Cond.native ({ cls := "java/lang/System", name := "arraycopy", desc := "(Ljava/lang/Object;ILjava/lang/Object;II)V" } : Jvm.MethodName)) ∈ lw_all := lw_g (lw_at lw_m1 193 rfl) rfl
theorem q301 : (Jvm.Cond.methodLink "java/lang/AbstractStringBuilder" (83 : Nat) ({ cls := "java/lang/AbstractStringBuilder", name := "isLatin1", desc := "()Z" } : Jvm.MethodName)) ∈ lw_all := lw_g (lw_at lw_m1 194 rfl) rfl
theorem q302 : (Jvm.Cond.instanceMethod ({ cls := "java/lang/AbstractStringBuilder", name := "isLatin1", desc := "()Z" } : Jvm.MethodName)) ∈ lw_all := lw_g (lw_at lw_m1 195 rfl) rfl
theorem q303 : (Jvm.Cond.sameMethod "java/lang/AbstractStringBuilder" "java/lang/AbstractStringBuilder" "isLatin1" "()Z") ∈ lw_all := lw_g (lw_at lw_m1 196 rfl) rfl
theorem q304 : (Jvm.Cond.selects "java/lang/StringBuilder" ({ cls := "java/lang/AbstractStringBuilder", name := "isLatin1", desc := "()Z" } : Jvm.MethodName) ({ cls := "java/lang/AbstractStringBuilder", name := "isLatin1", desc := "()Z" } : Jvm.MethodName)) ∈ lw_all := lw_g (lw_at lw_m1 197 rfl) rfl
theorem q305 : (Jvm.Cond.code ({ cls := "java/lang/AbstractStringBuilder", name := "isLatin1", desc := "()Z" } : Jvm.MethodName) prog_19_method_68_code (1 : Nat) (Option.some Jvm.ClassFile.FieldType.boolean)) ∈ lw_all := lw_g (lw_at lw_m1 198 rfl) rfl
theorem q306 : (Jvm.Cond.methodLink "java/lang/AbstractStringBuilder" (226 : Nat) ({ cls := "java/lang/StringUTF16", name := "putCharsAt", desc := "([BICCCC)I" } : Jvm.MethodName)) ∈ lw_all := lw_g (lw_at lw_m1 199 rfl) rfl
theorem q307 : (Jvm.Cond.static ({ cls := "java/lang/StringUTF16", name := "putCharsAt", desc := "([BICCCC)I" } : Jvm.MethodName)) ∈ lw_all := lw_g (lw_at lw_m1 200 rfl) rfl
theorem q308 : (Jvm.Cond.code ({ cls := "java/lang/StringUTF16", name := "putCharsAt", desc := "([BICCCC)I" } : Jvm.MethodName) prog_37_method_81_code (7 : Nat) (Option.some Jvm.ClassFile.FieldType.int)) ∈ lw_all := lw_g (lw_at lw_m1 201 rfl) rfl
theorem q309 : (Jvm.Cond.methodLink "java/lang/StringUTF16" (96 : Nat) ({ cls := "java/lang/StringUTF16", name := "checkBoundsBeginEnd", desc := "(II[B)V" } : Jvm.MethodName)) ∈ lw_all := lw_g (lw_at lw_m1 202 rfl) rfl
theorem q310 : (Jvm.Cond.static ({ cls := "java/lang/StringUTF16", name := "checkBoundsBeginEnd", desc := "(II[B)V" } : Jvm.MethodName)) ∈ lw_all := lw_g (lw_at lw_m1 203 rfl) rfl
theorem q311 : (Jvm.Cond.code ({ cls := "java/lang/StringUTF16", name := "checkBoundsBeginEnd", desc := "(II[B)V" } : Jvm.MethodName) prog_37_method_93_code (3 : Nat) (Option.none : Option Jvm.ClassFile.FieldType)) ∈ lw_all := lw_g (lw_at lw_m1 204 rfl) rfl
theorem q312 : (Jvm.Cond.methodLink "java/lang/StringUTF16" (48 : Nat) ({ cls := "java/lang/StringUTF16", name := "length", desc := "([B)I" } : Jvm.MethodName)) ∈ lw_all := lw_g (lw_at lw_m1 205 rfl) rfl
theorem q313 : (Jvm.Cond.static ({ cls := "java/lang/StringUTF16", name := "length", desc := "([B)I" } : Jvm.MethodName)) ∈ lw_all := lw_g (lw_at lw_m1 206 rfl) rfl
theorem q314 : (Jvm.Cond.code ({ cls := "java/lang/StringUTF16", name := "length", desc := "([B)I" } : Jvm.MethodName) prog_37_method_6_code (1 : Nat) (Option.some Jvm.ClassFile.FieldType.int)) ∈ lw_all := lw_g (lw_at lw_m1 207 rfl) rfl
theorem q315 : (Jvm.Cond.methodLink "java/lang/StringUTF16" (241 : Nat) ({ cls := "java/lang/String", name := "checkBoundsBeginEnd", desc := "(III)V" } : Jvm.MethodName)) ∈ lw_all := lw_g (lw_at lw_m1 208 rfl) rfl
theorem q316 : (Jvm.Cond.static ({ cls := "java/lang/String", name := "checkBoundsBeginEnd", desc := "(III)V" } : Jvm.MethodName)) ∈ lw_all := lw_g (lw_at lw_m1 209 rfl) rfl
theorem q317 : (Jvm.Cond.code ({ cls := "java/lang/String", name := "checkBoundsBeginEnd", desc := "(III)V" } : Jvm.MethodName) prog_34_method_158_code (3 : Nat) (Option.none : Option Jvm.ClassFile.FieldType)) ∈ lw_all := lw_g (lw_at lw_m1 210 rfl) rfl
theorem q318 : (Jvm.Cond.fieldLink "java/lang/String" (1053 : Nat) "jdk/internal/util/Preconditions" "SIOOBE_FORMATTER" "Ljava/util/function/BiFunction;") ∈ lw_all := lw_g (lw_at lw_m1 211 rfl) rfl
theorem q319 : (Jvm.Cond.laysStatic "jdk/internal/util/Preconditions" "SIOOBE_FORMATTER" "Ljava/util/function/BiFunction;") ∈ lw_tbl := lw_at lw_m1 212 rfl
theorem q320 : (Jvm.Cond.methodLink "java/lang/String" (1062 : Nat) ({ cls := "jdk/internal/util/Preconditions", name := "checkFromToIndex", desc := "(IIILjava/util/function/BiFunction;)I" } : Jvm.MethodName)) ∈ lw_all := lw_g (lw_at lw_m1 213 rfl) rfl
theorem q321 : (Jvm.Cond.static ({ cls := "jdk/internal/util/Preconditions", name := "checkFromToIndex", desc := "(IIILjava/util/function/BiFunction;)I" } : Jvm.MethodName)) ∈ lw_all := lw_g (lw_at lw_m1 214 rfl) rfl
theorem q322 : (Jvm.Cond.code ({ cls := "jdk/internal/util/Preconditions", name := "checkFromToIndex", desc := "(IIILjava/util/function/BiFunction;)I" } : Jvm.MethodName) prog_56_method_12_code (4 : Nat) (Option.some Jvm.ClassFile.FieldType.int)) ∈ lw_all := lw_g (lw_at lw_m1 215 rfl) rfl
theorem q323 : (Jvm.Cond.methodLink "java/lang/StringUTF16" (111 : Nat) ({ cls := "java/lang/StringUTF16", name := "putChar", desc := "([BII)V" } : Jvm.MethodName)) ∈ lw_all := lw_g (lw_at lw_m1 216 rfl) rfl
theorem q324 : (Jvm.Cond.static ({ cls := "java/lang/StringUTF16", name := "putChar", desc := "([BII)V" } : Jvm.MethodName)) ∈ lw_all := lw_g (lw_at lw_m1 217 rfl) rfl
theorem q325 : (Jvm.Cond.code ({ cls := "java/lang/StringUTF16", name := "putChar", desc := "([BII)V" } : Jvm.MethodName) prog_37_method_4_code (3 : Nat) (Option.none : Option Jvm.ClassFile.FieldType)) ∈ lw_all := lw_g (lw_at lw_m1 218 rfl) rfl
theorem q326 : (Jvm.Cond.fieldLink "java/lang/StringUTF16" (44 : Nat) "java/lang/StringUTF16" "$assertionsDisabled" "Z") ∈ lw_all := lw_g (lw_at lw_m1 219 rfl) rfl
theorem q327 : (Jvm.Cond.laysStatic "java/lang/StringUTF16" "$assertionsDisabled" "Z") ∈ lw_tbl := lw_at lw_m1 220 rfl
theorem q328 : (Jvm.Cond.fieldLink "java/lang/StringUTF16" (59 : Nat) "java/lang/StringUTF16" "HI_BYTE_SHIFT" "I") ∈ lw_all := lw_g (lw_at lw_m1 221 rfl) rfl
theorem q329 : (Jvm.Cond.laysStatic "java/lang/StringUTF16" "HI_BYTE_SHIFT" "I") ∈ lw_tbl := lw_at lw_m1 222 rfl
theorem q330 : (Jvm.Cond.fieldLink "java/lang/StringUTF16" (63 : Nat) "java/lang/StringUTF16" "LO_BYTE_SHIFT" "I") ∈ lw_all := lw_g (lw_at lw_m1 223 rfl) rfl
theorem q331 : (Jvm.Cond.laysStatic "java/lang/StringUTF16" "LO_BYTE_SHIFT" "I") ∈ lw_tbl := lw_at lw_m1 224 rfl
theorem q332 : (Jvm.Cond.methodLink "java/lang/AbstractStringBuilder" (32 : Nat) ({ cls := "java/lang/String", name := "length", desc := "()I" } : Jvm.MethodName)) ∈ lw_all := lw_g (lw_at lw_m1 225 rfl) rfl
theorem q333 : (Jvm.Cond.instanceMethod ({ cls := "java/lang/String", name := "length", desc := "()I" } : Jvm.MethodName)) ∈ lw_all := lw_g (lw_at lw_m1 226 rfl) rfl
theorem q334 : (Jvm.Cond.selects "java/lang/String" ({ cls := "java/lang/String", name := "length", desc := "()I" } : Jvm.MethodName) ({ cls := "java/lang/String", name := "length", desc := "()I" } : Jvm.MethodName)) ∈ lw_all := lw_g (lw_at lw_m1 227 rfl) rfl
theorem q335 : (Jvm.Cond.code ({ cls := "java/lang/String", name := "length", desc := "()I" } : Jvm.MethodName) prog_34_method_54_code (1 : Nat) (Option.some Jvm.ClassFile.FieldType.int)) ∈ lw_all := lw_g (lw_at lw_m1 228 rfl) rfl
theorem q336 : (Jvm.Cond.methodLink "java/lang/String" (335 : Nat) ({ cls := "java/lang/String", name := "coder", desc := "()B" } : Jvm.MethodName)) ∈ lw_all := lw_g (lw_at lw_m1 229 rfl) rfl
theorem q337 : (Jvm.Cond.instanceMethod ({ cls := "java/lang/String", name := "coder", desc := "()B" } : Jvm.MethodName)) ∈ lw_all := lw_g (lw_at lw_m1 230 rfl) rfl
theorem q338 : (Jvm.Cond.selects "java/lang/String" ({ cls := "java/lang/String", name := "coder", desc := "()B" } : Jvm.MethodName) ({ cls := "java/lang/String", name := "coder", desc := "()B" } : Jvm.MethodName)) ∈ lw_all := lw_g (lw_at lw_m1 231 rfl) rfl
theorem q339 : (Jvm.Cond.code ({ cls := "java/lang/String", name := "coder", desc := "()B" } : Jvm.MethodName) prog_34_method_152_code (1 : Nat) (Option.some Jvm.ClassFile.FieldType.byte)) ∈ lw_all := lw_g (lw_at lw_m1 232 rfl) rfl
theorem q340 : (Jvm.Cond.fieldLink "java/lang/String" (38 : Nat) "java/lang/String" "COMPACT_STRINGS" "Z") ∈ lw_all := lw_g (lw_at lw_m1 233 rfl) rfl
theorem q341 : (Jvm.Cond.methodLink "java/lang/AbstractStringBuilder" (208 : Nat) ({ cls := "java/lang/AbstractStringBuilder", name := "putStringAt", desc := "(ILjava/lang/String;)V" } : Jvm.MethodName)) ∈ lw_all := lw_g (lw_at lw_m1 234 rfl) rfl
theorem q342 : (Jvm.Cond.privateMethod ({ cls := "java/lang/AbstractStringBuilder", name := "putStringAt", desc := "(ILjava/lang/String;)V" } : Jvm.MethodName)) ∈ lw_tbl := lw_at lw_m1 235 rfl
theorem q343 : (Jvm.Cond.instanceMethod ({ cls := "java/lang/AbstractStringBuilder", name := "putStringAt", desc := "(ILjava/lang/String;)V" } : Jvm.MethodName)) ∈ lw_all := lw_g (lw_at lw_m1 236 rfl) rfl
theorem q344 : (Jvm.Cond.code ({ cls := "java/lang/AbstractStringBuilder", name := "putStringAt", desc := "(ILjava/lang/String;)V" } : Jvm.MethodName) prog_19_method_73_code (3 : Nat) (Option.none : Option Jvm.ClassFile.FieldType)) ∈ lw_all := lw_g (lw_at lw_m1 237 rfl) rfl
theorem q345 : (Jvm.Cond.methodLink "java/lang/AbstractStringBuilder" (397 : Nat) ({ cls := "java/lang/AbstractStringBuilder", name := "inflateIfNeededFor", desc := "(Ljava/lang/String;)V" } : Jvm.MethodName)) ∈ lw_all := lw_g (lw_at lw_m1 238 rfl) rfl
theorem q346 : (Jvm.Cond.privateMethod ({ cls := "java/lang/AbstractStringBuilder", name := "inflateIfNeededFor", desc := "(Ljava/lang/String;)V" } : Jvm.MethodName)) ∈ lw_tbl := lw_at lw_m1 239 rfl
theorem q347 : (Jvm.Cond.instanceMethod ({ cls := "java/lang/AbstractStringBuilder", name := "inflateIfNeededFor", desc := "(Ljava/lang/String;)V" } : Jvm.MethodName)) ∈ lw_all := lw_g (lw_at lw_m2 0 rfl) rfl
theorem q348 : (Jvm.Cond.code ({ cls := "java/lang/AbstractStringBuilder", name := "inflateIfNeededFor", desc := "(Ljava/lang/String;)V" } : Jvm.MethodName) prog_19_method_71_code (2 : Nat) (Option.none : Option Jvm.ClassFile.FieldType)) ∈ lw_all := lw_g (lw_at lw_m2 1 rfl) rfl
theorem q349 : (Jvm.Cond.methodLink "java/lang/AbstractStringBuilder" (40 : Nat) ({ cls := "java/lang/String", name := "coder", desc := "()B" } : Jvm.MethodName)) ∈ lw_all := lw_g (lw_at lw_m2 2 rfl) rfl
theorem q350 : (Jvm.Cond.methodLink "java/lang/AbstractStringBuilder" (195 : Nat) ({ cls := "java/lang/AbstractStringBuilder", name := "inflate", desc := "()V" } : Jvm.MethodName)) ∈ lw_all := lw_g (lw_at lw_m2 3 rfl) rfl
theorem q351 : (Jvm.Cond.privateMethod ({ cls := "java/lang/AbstractStringBuilder", name := "inflate", desc := "()V" } : Jvm.MethodName)) ∈ lw_tbl := lw_at lw_m2 4 rfl
theorem q352 : (Jvm.Cond.instanceMethod ({ cls := "java/lang/AbstractStringBuilder", name := "inflate", desc := "()V" } : Jvm.MethodName)) ∈ lw_all := lw_g (lw_at lw_m2 5 rfl) rfl
theorem q353 : (Jvm.Cond.code ({ cls := "java/lang/AbstractStringBuilder", name := "inflate", desc := "()V" } : Jvm.MethodName) prog_19_method_11_code (2 : Nat) (Option.none : Option Jvm.ClassFile.FieldType)) ∈ lw_all := lw_g (lw_at lw_m2 6 rfl) rfl
theorem q354 : (Jvm.Cond.methodLink "java/lang/AbstractStringBuilder" (125 : Nat) ({ cls := "java/lang/StringLatin1", name := "inflate", desc := "([BI[BII)V" } : Jvm.MethodName)) ∈ lw_all := lw_g (lw_at lw_m2 7 rfl) rfl
theorem q355 : (Jvm.Cond.static ({ cls := "java/lang/StringLatin1", name := "inflate", desc := "([BI[BII)V" } : Jvm.MethodName)) ∈ lw_all := lw_g (lw_at lw_m2 8 rfl) rfl
theorem q356 : (Jvm.Cond.code ({ cls := "java/lang/StringLatin1", name := "inflate", desc := "([BI[BII)V" } : Jvm.MethodName) prog_36_method_50_code (5 : Nat) (Option.none : Option Jvm.ClassFile.FieldType)) ∈ lw_all := lw_g (lw_at lw_m2 9 rfl) rfl
theorem q357 : (Jvm.Cond.methodLink "java/lang/StringLatin1" (240 : Nat) ({ cls := "java/lang/StringUTF16", name := "inflate", desc := "([BI[BII)V" } : Jvm.MethodName)) ∈ lw_all := lw_g (lw_at lw_m2 10 rfl) rfl
theorem q358 : (Jvm.Cond.static ({ cls := "java/lang/StringUTF16", name := "inflate", desc := "([BI[BII)V" } : Jvm.MethodName)) ∈ lw_all := lw_g (lw_at lw_m2 11 rfl) rfl
theorem q359 : (Jvm.Cond.code ({ cls := "java/lang/StringUTF16", name := "inflate", desc := "([BI[BII)V" } : Jvm.MethodName) prog_37_method_86_code (6 : Nat) (Option.none : Option Jvm.ClassFile.FieldType)) ∈ lw_all := lw_g (lw_at lw_m2 12 rfl) rfl
theorem q360 : (Jvm.Cond.methodLink "java/lang/StringUTF16" (173 : Nat) ({ cls := "java/lang/StringUTF16", name := "checkBoundsOffCount", desc := "(II[B)V" } : Jvm.MethodName)) ∈ lw_all := lw_g (lw_at lw_m2 13 rfl) rfl
theorem q361 : (Jvm.Cond.static ({ cls := "java/lang/StringUTF16", name := "checkBoundsOffCount", desc := "(II[B)V" } : Jvm.MethodName)) ∈ lw_all := lw_g (lw_at lw_m2 14 rfl) rfl
theorem q362 : (Jvm.Cond.code ({ cls := "java/lang/StringUTF16", name := "checkBoundsOffCount", desc := "(II[B)V" } : Jvm.MethodName) prog_37_method_94_code (3 : Nat) (Option.none : Option Jvm.ClassFile.FieldType)) ∈ lw_all := lw_g (lw_at lw_m2 15 rfl) rfl
theorem q363 : (Jvm.Cond.methodLink "java/lang/StringUTF16" (419 : Nat) ({ cls := "java/lang/String", name := "checkBoundsOffCount", desc := "(III)I" } : Jvm.MethodName)) ∈ lw_all := lw_g (lw_at lw_m2 16 rfl) rfl
theorem q364 : (Jvm.Cond.static ({ cls := "java/lang/String", name := "checkBoundsOffCount", desc := "(III)I" } : Jvm.MethodName)) ∈ lw_all := lw_g (lw_at lw_m2 17 rfl) rfl
theorem q365 : (Jvm.Cond.code ({ cls := "java/lang/String", name := "checkBoundsOffCount", desc := "(III)I" } : Jvm.MethodName) prog_34_method_157_code (3 : Nat) (Option.some Jvm.ClassFile.FieldType.int)) ∈ lw_all := lw_g (lw_at lw_m2 18 rfl) rfl
theorem q366 : (Jvm.Cond.methodLink "java/lang/String" (1065 : Nat) ({ cls := "jdk/internal/util/Preconditions", name := "checkFromIndexSize", desc := "(IIILjava/util/function/BiFunction;)I" } : Jvm.MethodName)) ∈ lw_all := lw_g (lw_at lw_m2 19 rfl) rfl
theorem q367 : (Jvm.Cond.static ({ cls := "jdk/internal/util/Preconditions", name := "checkFromIndexSize", desc := "(IIILjava/util/function/BiFunction;)I" } : Jvm.MethodName)) ∈ lw_all := lw_g (lw_at lw_m2 20 rfl) rfl
theorem q368 : (Jvm.Cond.code ({ cls := "jdk/internal/util/Preconditions", name := "checkFromIndexSize", desc := "(IIILjava/util/function/BiFunction;)I" } : Jvm.MethodName) prog_56_method_13_code (4 : Nat) (Option.some Jvm.ClassFile.FieldType.int)) ∈ lw_all := lw_g (lw_at lw_m2 21 rfl) rfl
theorem q369 : (Jvm.Cond.methodLink "java/lang/AbstractStringBuilder" (399 : Nat) ({ cls := "java/lang/String", name := "getBytes", desc := "([BIB)V" } : Jvm.MethodName)) ∈ lw_all := lw_g (lw_at lw_m2 22 rfl) rfl
theorem q370 : (Jvm.Cond.instanceMethod ({ cls := "java/lang/String", name := "getBytes", desc := "([BIB)V" } : Jvm.MethodName)) ∈ lw_all := lw_g (lw_at lw_m2 23 rfl) rfl
theorem q371 : (Jvm.Cond.selects "java/lang/String" ({ cls := "java/lang/String", name := "getBytes", desc := "([BIB)V" } : Jvm.MethodName) ({ cls := "java/lang/String", name := "getBytes", desc := "([BIB)V" } : Jvm.MethodName)) ∈ lw_all := lw_g (lw_at lw_m2 24 rfl) rfl
theorem q372 : (Jvm.Cond.code ({ cls := "java/lang/String", name := "getBytes", desc := "([BIB)V" } : Jvm.MethodName) prog_34_method_147_code (4 : Nat) (Option.none : Option Jvm.ClassFile.FieldType)) ∈ lw_all := lw_g (lw_at lw_m2 25 rfl) rfl
theorem q373 : (Jvm.Cond.methodLink "java/lang/String" (212 : Nat) ({ cls := "java/lang/System", name := "arraycopy", desc := "(Ljava/lang/Object;ILjava/lang/Object;II)V" } : Jvm.MethodName)) ∈ lw_all := lw_g (lw_at lw_m2 26 rfl) rfl
theorem q374 : (Jvm.Cond.methodLink "java/lang/String" (106 : Nat) ({ cls := "java/lang/StringLatin1", name := "inflate", desc := "([BI[BII)V" } : Jvm.MethodName)) ∈ lw_all := lw_g (lw_at lw_m2 27 rfl) rfl
theorem q375 : (Jvm.Cond.methodLink "java/util/ArrayList" (29 : Nat) ({ cls := "java/lang/StringBuilder", name := "append", desc := "(I)Ljava/lang/StringBuilder;" } : Jvm.MethodName)) ∈ lw_all := lw_g (lw_at lw_m2 28 rfl) rfl
theorem q376 : (Jvm.Cond.instanceMethod ({ cls := "java/lang/StringBuilder", name := "append", desc := "(I)Ljava/lang/StringBuilder;" } : Jvm.MethodName)) ∈ lw_all := lw_g (lw_at lw_m2 29 rfl) rfl
theorem q377 : (Jvm.Cond.selects "java/lang/StringBuilder" ({ cls := "java/lang/StringBuilder", name := "append", desc := "(I)Ljava/lang/StringBuilder;" } : Jvm.MethodName) ({ cls := "java/lang/StringBuilder", name := "append", desc := "(I)Ljava/lang/StringBuilder;" } : Jvm.MethodName)) ∈ lw_all := lw_g (lw_at lw_m2 30 rfl) rfl
theorem q378 : (Jvm.Cond.code ({ cls := "java/lang/StringBuilder", name := "append", desc := "(I)Ljava/lang/StringBuilder;" } : Jvm.MethodName) prog_35_method_15_code (2 : Nat) (Option.some (Jvm.ClassFile.FieldType.object "java/lang/StringBuilder"))) ∈ lw_all := lw_g (lw_at lw_m2 31 rfl) rfl
theorem q379 : (Jvm.Cond.methodLink "java/lang/StringBuilder" (53 : Nat) ({ cls := "java/lang/AbstractStringBuilder", name := "append", desc := "(I)Ljava/lang/AbstractStringBuilder;" } : Jvm.MethodName)) ∈ lw_all := lw_g (lw_at lw_m2 32 rfl) rfl
theorem q380 : (Jvm.Cond.instanceMethod ({ cls := "java/lang/AbstractStringBuilder", name := "append", desc := "(I)Ljava/lang/AbstractStringBuilder;" } : Jvm.MethodName)) ∈ lw_all := lw_g (lw_at lw_m2 33 rfl) rfl
theorem q381 : (Jvm.Cond.code ({ cls := "java/lang/AbstractStringBuilder", name := "append", desc := "(I)Ljava/lang/AbstractStringBuilder;" } : Jvm.MethodName) prog_19_method_32_code (4 : Nat) (Option.some (Jvm.ClassFile.FieldType.object "java/lang/AbstractStringBuilder"))) ∈ lw_all := lw_g (lw_at lw_m2 34 rfl) rfl
theorem q382 : (Jvm.Cond.methodLink "java/lang/AbstractStringBuilder" (245 : Nat) ({ cls := "java/lang/Integer", name := "stringSize", desc := "(I)I" } : Jvm.MethodName)) ∈ lw_all := lw_g (lw_at lw_m2 35 rfl) rfl
theorem q383 : (Jvm.Cond.static ({ cls := "java/lang/Integer", name := "stringSize", desc := "(I)I" } : Jvm.MethodName)) ∈ lw_all := lw_g (lw_at lw_m2 36 rfl) rfl
theorem q384 : (Jvm.Cond.code ({ cls := "java/lang/Integer", name := "stringSize", desc := "(I)I" } : Jvm.MethodName) prog_29_method_13_code (4 : Nat) (Option.some Jvm.ClassFile.FieldType.int)) ∈ lw_all := lw_g (lw_at lw_m2 37 rfl) rfl
theorem q385 : (Jvm.Cond.methodLink "java/lang/AbstractStringBuilder" (248 : Nat) ({ cls := "java/lang/Integer", name := "getChars", desc := "(II[B)I" } : Jvm.MethodName)) ∈ lw_all := lw_g (lw_at lw_m2 38 rfl) rfl
theorem q386 : (Jvm.Cond.static ({ cls := "java/lang/Integer", name := "getChars", desc := "(II[B)I" } : Jvm.MethodName)) ∈ lw_all := lw_g (lw_at lw_m2 39 rfl) rfl
theorem q387 : (Jvm.Cond.code ({ cls := "java/lang/Integer", name := "getChars", desc := "(II[B)I" } : Jvm.MethodName) prog_29_method_12_code (7 : Nat) (Option.some Jvm.ClassFile.FieldType.int)) ∈ lw_all := lw_g (lw_at lw_m2 40 rfl) rfl
theorem q388 : (Jvm.Cond.fieldLink "java/lang/Integer" (83 : Nat) "java/lang/Integer" "DigitOnes" "[B") ∈ lw_all := lw_g (lw_at lw_m2 41 rfl) rfl
theorem q389 : (Jvm.Cond.laysStatic "java/lang/Integer" "DigitOnes" "[B") ∈ lw_tbl := lw_at lw_m2 42 rfl
theorem q390 : (Jvm.Cond.fieldLink "java/lang/Integer" (87 : Nat) "java/lang/Integer" "DigitTens" "[B") ∈ lw_all := lw_g (lw_at lw_m2 43 rfl) rfl
theorem q391 : (Jvm.Cond.laysStatic "java/lang/Integer" "DigitTens" "[B") ∈ lw_tbl := lw_at lw_m2 44 rfl
theorem q392 : (Jvm.Cond.methodLink "java/lang/AbstractStringBuilder" (251 : Nat) ({ cls := "java/lang/StringUTF16", name := "getChars", desc := "(III[B)I" } : Jvm.MethodName)) ∈ lw_all := lw_g (lw_at lw_m2 45 rfl) rfl
theorem q393 : (Jvm.Cond.static ({ cls := "java/lang/StringUTF16", name := "getChars", desc := "(III[B)I" } : Jvm.MethodName)) ∈ lw_all := lw_g (lw_at lw_m2 46 rfl) rfl
theorem q394 : (Jvm.Cond.code ({ cls := "java/lang/StringUTF16", name := "getChars", desc := "(III[B)I" } : Jvm.MethodName) prog_37_method_77_code (5 : Nat) (Option.some Jvm.ClassFile.FieldType.int)) ∈ lw_all := lw_g (lw_at lw_m2 47 rfl) rfl
theorem q395 : (Jvm.Cond.methodLink "java/lang/StringUTF16" (393 : Nat) ({ cls := "java/lang/StringUTF16", name := "getChars", desc := "(II[B)I" } : Jvm.MethodName)) ∈ lw_all := lw_g (lw_at lw_m2 48 rfl) rfl
theorem q396 : (Jvm.Cond.static ({ cls := "java/lang/StringUTF16", name := "getChars", desc := "(II[B)I" } : Jvm.MethodName)) ∈ lw_all := lw_g (lw_at lw_m2 49 rfl) rfl
theorem q397 : (Jvm.Cond.code ({ cls := "java/lang/StringUTF16", name := "getChars", desc := "(II[B)I" } : Jvm.MethodName) prog_37_method_89_code (7 : Nat) (Option.some Jvm.ClassFile.FieldType.int)) ∈ lw_all := lw_g (lw_at lw_m2 50 rfl) rfl
theorem q398 : (Jvm.Cond.fieldLink "java/lang/StringUTF16" (403 : Nat) "java/lang/Integer" "DigitOnes" "[B") ∈ lw_all := lw_g (lw_at lw_m2 51 rfl) rfl
theorem q399 : (Jvm.Cond.fieldLink "java/lang/StringUTF16" (407 : Nat) "java/lang/Integer" "DigitTens" "[B") ∈ lw_all := lw_g (lw_at lw_m2 52 rfl) rfl
theorem q400 : (Jvm.Cond.methodLink "java/util/ArrayList" (32 : Nat) ({ cls := "java/lang/StringBuilder", name := "toString", desc := "()Ljava/lang/String;" } : Jvm.MethodName)) ∈ lw_all := lw_g (lw_at lw_m2 53 rfl) rfl
theorem q401 : (Jvm.Cond.instanceMethod ({ cls := "java/lang/StringBuilder", name := "toString", desc := "()Ljava/lang/String;" } : Jvm.MethodName)) ∈ lw_all := lw_g (lw_at lw_m2 54 rfl) rfl
theorem q402 : (Jvm.Cond.selects "java/lang/StringBuilder" ({ cls := "java/lang/StringBuilder", name := "toString", desc := "()Ljava/lang/String;" } : Jvm.MethodName) ({ cls := "java/lang/StringBuilder", name := "toString", desc := "()Ljava/lang/String;" } : Jvm.MethodName)) ∈ lw_all := lw_g (lw_at lw_m2 55 rfl) rfl
theorem q403 : (Jvm.Cond.code ({ cls := "java/lang/StringBuilder", name := "toString", desc := "()Ljava/lang/String;" } : Jvm.MethodName) prog_35_method_42_code (1 : Nat) (Option.some (Jvm.ClassFile.FieldType.object "java/lang/String"))) ∈ lw_all := lw_g (lw_at lw_m2 56 rfl) rfl
theorem q404 : (Jvm.Cond.classLink "java/lang/StringBuilder" (18 : Nat) "java/lang/String") ∈ lw_all := lw_g (lw_at lw_m2 57 rfl) rfl
theorem q405 : (Jvm.Cond.instantiable "java/lang/String" (4 : Nat)) ∈ lw_all := lw_g (lw_at lw_m2 58 rfl) rfl
theorem q406 : (Jvm.Cond.methodLink "java/lang/StringBuilder" (137 : Nat) ({ cls := "java/lang/String", name := "<init>", desc := "(Ljava/lang/StringBuilder;)V" } : Jvm.MethodName)) ∈ lw_all := lw_g (lw_at lw_m2 59 rfl) rfl
theorem q407 : (Jvm.Cond.instanceMethod ({ cls := "java/lang/String", name := "<init>", desc := "(Ljava/lang/StringBuilder;)V" } : Jvm.MethodName)) ∈ lw_all := lw_g (lw_at lw_m2 60 rfl) rfl
theorem q408 : (Jvm.Cond.code ({ cls := "java/lang/String", name := "<init>", desc := "(Ljava/lang/StringBuilder;)V" } : Jvm.MethodName) prog_34_method_53_code (2 : Nat) (Option.none : Option Jvm.ClassFile.FieldType)) ∈ lw_all := lw_g (lw_at lw_m2 61 rfl) rfl
theorem q409 : (Jvm.Cond.methodLink "java/lang/String" (489 : Nat) ({ cls := "java/lang/String", name := "<init>", desc := "(Ljava/lang/AbstractStringBuilder;Ljava/lang/Void;)V" } : Jvm.MethodName)) ∈ lw_all := lw_g (lw_at lw_m2 62 rfl) rfl
theorem q410 : (Jvm.Cond.instanceMethod ({ cls := "java/lang/String", name := "<init>", desc := "(Ljava/lang/AbstractStringBuilder;Ljava/lang/Void;)V" } : Jvm.MethodName)) ∈ lw_all := lw_g (lw_at lw_m2 63 rfl) rfl
theorem q411 : (Jvm.Cond.code ({ cls := "java/lang/String", name := "<init>", desc := "(Ljava/lang/AbstractStringBuilder;Ljava/lang/Void;)V" } : Jvm.MethodName) prog_34_method_150_code (5 : Nat) (Option.none : Option Jvm.ClassFile.FieldType)) ∈ lw_all := lw_g (lw_at lw_m2 64 rfl) rfl
theorem q412 : (Jvm.Cond.methodLink "java/lang/String" (1 : Nat) ({ cls := "java/lang/Object", name := "<init>", desc := "()V" } : Jvm.MethodName)) ∈ lw_all := lw_g (lw_at lw_m2 65 rfl) rfl
theorem q413 : (Jvm.Cond.methodLink "java/lang/String" (552 : Nat) ({ cls := "java/lang/AbstractStringBuilder", name := "getValue", desc := "()[B" } : Jvm.MethodName)) ∈ lw_all := lw_g (lw_at lw_m2 66 rfl) rfl
theorem q414 : (Jvm.Cond.instanceMethod ({ cls := "java/lang/AbstractStringBuilder", name := "getValue", desc := "()[B" } : Jvm.MethodName)) ∈ lw_all := lw_g (lw_at lw_m2 67 rfl) rfl
theorem q415 : (Jvm.Cond.sameMethod "java/lang/AbstractStringBuilder" "java/lang/AbstractStringBuilder" "getValue" "()[B") ∈ lw_all := lw_g (lw_at lw_m2 68 rfl) rfl
theorem q416 : (Jvm.Cond.selects "java/lang/StringBuilder" ({ cls := "java/lang/AbstractStringBuilder", name := "getValue", desc := "()[B" } : Jvm.MethodName) ({ cls := "java/lang/AbstractStringBuilder", name := "getValue", desc := "()[B" } : Jvm.MethodName)) ∈ lw_all := lw_g (lw_at lw_m2 69 rfl) rfl
theorem q417 : (Jvm.Cond.code ({ cls := "java/lang/AbstractStringBuilder", name := "getValue", desc := "()[B" } : Jvm.MethodName) prog_19_method_64_code (1 : Nat) (Option.some (Jvm.ClassFile.FieldType.array Jvm.ClassFile.FieldType.byte))) ∈ lw_all := lw_g (lw_at lw_m2 70 rfl) rfl
theorem q418 : (Jvm.Cond.methodLink "java/lang/String" (549 : Nat) ({ cls := "java/lang/AbstractStringBuilder", name := "length", desc := "()I" } : Jvm.MethodName)) ∈ lw_all := lw_g (lw_at lw_m2 71 rfl) rfl
theorem q419 : (Jvm.Cond.instanceMethod ({ cls := "java/lang/AbstractStringBuilder", name := "length", desc := "()I" } : Jvm.MethodName)) ∈ lw_all := lw_g (lw_at lw_m2 72 rfl) rfl
theorem q420 : (Jvm.Cond.sameMethod "java/lang/AbstractStringBuilder" "java/lang/AbstractStringBuilder" "length" "()I") ∈ lw_all := lw_g (lw_at lw_m2 73 rfl) rfl
theorem q421 : (Jvm.Cond.selects "java/lang/StringBuilder" ({ cls := "java/lang/AbstractStringBuilder", name := "length", desc := "()I" } : Jvm.MethodName) ({ cls := "java/lang/StringBuilder", name := "length", desc := "()I" } : Jvm.MethodName)) ∈ lw_all := lw_g (lw_at lw_m2 74 rfl) rfl
theorem q422 : (Jvm.Cond.instanceMethod ({ cls := "java/lang/StringBuilder", name := "length", desc := "()I" } : Jvm.MethodName)) ∈ lw_all := lw_g (lw_at lw_m2 75 rfl) rfl
theorem q423 : (Jvm.Cond.code ({ cls := "java/lang/StringBuilder", name := "length", desc := "()I" } : Jvm.MethodName) prog_35_method_93_code (1 : Nat) (Option.some Jvm.ClassFile.FieldType.int)) ∈ lw_all := lw_g (lw_at lw_m2 76 rfl) rfl
theorem q424 : (Jvm.Cond.methodLink "java/lang/StringBuilder" (343 : Nat) ({ cls := "java/lang/AbstractStringBuilder", name := "length", desc := "()I" } : Jvm.MethodName)) ∈ lw_all := lw_g (lw_at lw_m2 77 rfl) rfl
theorem q425 : (Jvm.Cond.code ({ cls := "java/lang/AbstractStringBuilder", name := "length", desc := "()I" } : Jvm.MethodName) prog_19_method_6_code (1 : Nat) (Option.some Jvm.ClassFile.FieldType.int)) ∈ lw_all := lw_g (lw_at lw_m2 78 rfl) rfl
theorem q426 : (Jvm.Cond.methodLink "java/lang/String" (1047 : Nat) ({ cls := "java/lang/AbstractStringBuilder", name := "isLatin1", desc := "()Z" } : Jvm.MethodName)) ∈ lw_all := lw_g (lw_at lw_m2 79 rfl) rfl
theorem q427 : (Jvm.Cond.methodLink "java/lang/String" (54 : Nat) ({ cls := "java/util/Arrays", name := "copyOfRange", desc := "([BII)[B" } : Jvm.MethodName)) ∈ lw_all := lw_g (lw_at lw_m2 80 rfl) rfl
theorem q428 : (Jvm.Cond.static ({ cls := "java/util/Arrays", name := "copyOfRange", desc := "([BII)[B" } : Jvm.MethodName)) ∈ lw_all := lw_g (lw_at lw_m2 81 rfl) rfl
theorem q429 : (Jvm.Cond.code ({ cls := "java/util/Arrays", name := "copyOfRange", desc := "([BII)[B" } : Jvm.MethodName) prog_47_method_132_code (3 : Nat) (Option.some (Jvm.ClassFile.FieldType.array Jvm.ClassFile.FieldType.byte))) ∈ lw_all := lw_g (lw_at lw_m2 82 rfl) rfl
theorem q430 : (Jvm.Cond.methodLink "java/util/Arrays" (339 : Nat) ({ cls := "java/util/Arrays", name := "copyOfRangeByte", desc := "([BII)[B" } : Jvm.MethodName)) ∈ lw_all := lw_g (lw_at lw_m2 83 rfl) rfl
theorem q431 : (Jvm.Cond.static ({ cls := "java/util/Arrays", name := "copyOfRangeByte", desc := "([BII)[B" } : Jvm.MethodName)) ∈ lw_all := lw_g (lw_at lw_m2 84 rfl) rfl
theorem q432 : (Jvm.Cond.code ({ cls := "java/util/Arrays", name := "copyOfRangeByte", desc := "([BII)[B" } : Jvm.MethodName) prog_47_method_133_code (5 : Nat) (Option.some (Jvm.ClassFile.FieldType.array Jvm.ClassFile.FieldType.byte))) ∈ lw_all := lw_g (lw_at lw_m2 85 rfl) rfl
theorem q433 : (Jvm.Cond.methodLink "java/util/Arrays" (343 : Nat) ({ cls := "java/util/Arrays", name := "checkLength", desc := "(II)V" } : Jvm.MethodName)) ∈ lw_all := lw_g (lw_at lw_m2 86 rfl) rfl
theorem q434 : (Jvm.Cond.static ({ cls := "java/util/Arrays", name := "checkLength", desc := "(II)V" } : Jvm.MethodName)) ∈ lw_all := lw_g (lw_at lw_m2 87 rfl) rfl
theorem q435 : (Jvm.Cond.code ({ cls := "java/util/Arrays", name := "checkLength", desc := "(II)V" } : Jvm.MethodName) prog_47_method_131_code (2 : Nat) (Option.none : Option Jvm.ClassFile.FieldType)) ∈ lw_all := lw_g (lw_at lw_m2 88 rfl) rfl
theorem q436 : (Jvm.Cond.classLink "java/util/Arrays" (43 : Nat) "java/lang/IllegalArgumentException") ∈ lw_all := lw_g (lw_at lw_m2 89 rfl) rfl
theorem q437 : (Jvm.Cond.classLink "java/util/Arrays" (45 : Nat) "java/lang/StringBuilder") ∈ lw_all := lw_g (lw_at lw_m2 90 rfl) rfl
theorem q438 : (Jvm.Cond.methodLink "java/util/Arrays" (47 : Nat) ({ cls := "java/lang/StringBuilder", name := "<init>", desc := "()V" } : Jvm.MethodName)) ∈ lw_all := lw_g (lw_at lw_m2 91 rfl) rfl
theorem q439 : (Jvm.Cond.methodLink "java/util/Arrays" (54 : Nat) ({ cls := "java/lang/StringBuilder", name := "append", desc := "(I)Ljava/lang/StringBuilder;" } : Jvm.MethodName)) ∈ lw_all := lw_g (lw_at lw_m2 92 rfl) rfl
theorem q440 : (Jvm.Cond.stringRef "java/util/Arrays" (337 : Nat) " > ") ∈ lw_tbl := lw_at lw_m2 93 rfl
theorem q441 : (Jvm.Cond.methodLink "java/util/Arrays" (50 : Nat) ({ cls := "java/lang/StringBuilder", name := "append", desc := "(Ljava/lang/String;)Ljava/lang/StringBuilder;" } : Jvm.MethodName)) ∈ lw_all := lw_g (lw_at lw_m2 94 rfl) rfl
theorem q442 : (Jvm.Cond.methodLink "java/util/Arrays" (61 : Nat) ({ cls := "java/lang/StringBuilder", name := "toString", desc := "()Ljava/lang/String;" } : Jvm.MethodName)) ∈ lw_all := lw_g (lw_at lw_m2 95 rfl) rfl
theorem q443 : (Jvm.Cond.methodLink "java/util/Arrays" (65 : Nat) ({ cls := "java/lang/IllegalArgumentException", name := "<init>", desc := "(Ljava/lang/String;)V" } : Jvm.MethodName)) ∈ lw_all := lw_g (lw_at lw_m2 96 rfl) rfl
theorem q444 : (Jvm.Cond.instanceMethod ({ cls := "java/lang/IllegalArgumentException", name := "<init>", desc := "(Ljava/lang/String;)V" } : Jvm.MethodName)) ∈ lw_all := lw_g (lw_at lw_m2 97 rfl) rfl
theorem q445 : (Jvm.Cond.code ({ cls := "java/lang/IllegalArgumentException", name := "<init>", desc := "(Ljava/lang/String;)V" } : Jvm.MethodName) prog_26_method_2_code (2 : Nat) (Option.none : Option Jvm.ClassFile.FieldType)) ∈ lw_all := lw_g (lw_at lw_m2 98 rfl) rfl
theorem q446 : (Jvm.Cond.methodLink "java/lang/IllegalArgumentException" (7 : Nat) ({ cls := "java/lang/RuntimeException", name := "<init>", desc := "(Ljava/lang/String;)V" } : Jvm.MethodName)) ∈ lw_all := lw_g (lw_at lw_m2 99 rfl) rfl
theorem q447 : (Jvm.Cond.instanceMethod ({ cls := "java/lang/RuntimeException", name := "<init>", desc := "(Ljava/lang/String;)V" } : Jvm.MethodName)) ∈ lw_all := lw_g (lw_at lw_m2 100 rfl) rfl
theorem q448 : (Jvm.Cond.code ({ cls := "java/lang/RuntimeException", name := "<init>", desc := "(Ljava/lang/String;)V" } : Jvm.MethodName) prog_33_method_2_code (2 : Nat) (Option.none : Option Jvm.ClassFile.FieldType)) ∈ lw_all := lw_g (lw_at lw_m2 101 rfl) rfl
theorem q449 : (Jvm.Cond.methodLink "java/lang/RuntimeException" (7 : Nat) ({ cls := "java/lang/Exception", name := "<init>", desc := "(Ljava/lang/String;)V" } : Jvm.MethodName)) ∈ lw_all := lw_g (lw_at lw_m2 102 rfl) rfl
theorem q450 : (Jvm.Cond.instanceMethod ({ cls := "java/lang/Exception", name := "<init>", desc := "(Ljava/lang/String;)V" } : Jvm.MethodName)) ∈ lw_all := lw_g (lw_at lw_m2 103 rfl) rfl
theorem q451 : (Jvm.Cond.code ({ cls := "java/lang/Exception", name := "<init>", desc := "(Ljava/lang/String;)V" } : Jvm.MethodName) prog_25_method_2_code (2 : Nat) (Option.none : Option Jvm.ClassFile.FieldType)) ∈ lw_all := lw_g (lw_at lw_m2 104 rfl) rfl
theorem q452 : (Jvm.Cond.methodLink "java/lang/Exception" (7 : Nat) ({ cls := "java/lang/Throwable", name := "<init>", desc := "(Ljava/lang/String;)V" } : Jvm.MethodName)) ∈ lw_all := lw_g (lw_at lw_m2 105 rfl) rfl
theorem q453 : (Jvm.Cond.instanceMethod ({ cls := "java/lang/Throwable", name := "<init>", desc := "(Ljava/lang/String;)V" } : Jvm.MethodName)) ∈ lw_all := lw_g (lw_at lw_m2 106 rfl) rfl
theorem q454 : (Jvm.Cond.code ({ cls := "java/lang/Throwable", name := "<init>", desc := "(Ljava/lang/String;)V" } : Jvm.MethodName) prog_40_method_2_code (2 : Nat) (Option.none : Option Jvm.ClassFile.FieldType)) ∈ lw_all := lw_g (lw_at lw_m2 107 rfl) rfl
theorem q455 : (Jvm.Cond.fieldLink "java/lang/Throwable" (198 : Nat) "java/lang/Throwable" "backtrace" "Ljava/lang/Object;") ∈ lw_all := lw_g (lw_at lw_m2 108 rfl) rfl
theorem q456 : (Jvm.Cond.fieldLink "java/lang/Throwable" (31 : Nat) "java/lang/Throwable" "detailMessage" "Ljava/lang/String;") ∈ lw_all := lw_g (lw_at lw_m2 109 rfl) rfl
theorem q457 : (Jvm.Cond.fieldLink "java/lang/Throwable" (7 : Nat) "java/lang/Throwable" "cause" "Ljava/lang/Throwable;") ∈ lw_all := lw_g (lw_at lw_m2 110 rfl) rfl
theorem q458 : (Jvm.Cond.fieldLink "java/lang/Throwable" (17 : Nat) "java/lang/Throwable" "stackTrace" "[Ljava/lang/StackTraceElement;") ∈ lw_all := lw_g (lw_at lw_m2 111 rfl) rfl
theorem q459 : (Jvm.Cond.fieldLink "java/lang/Throwable" (24 : Nat) "java/lang/Throwable" "suppressedExceptions" "Ljava/util/List;") ∈ lw_all := lw_g (lw_at lw_m2 112 rfl) rfl
theorem q460 : (Jvm.Cond.soleField "java/lang/Throwable" "backtrace") ∈ lw_all := lw_g (lw_at lw_m2 113 rfl) rfl
theorem q461 : (Jvm.Cond.soleField "java/lang/Throwable" "detailMessage") ∈ lw_all := lw_g (lw_at lw_m2 114 rfl) rfl
theorem q462 : (Jvm.Cond.soleField "java/lang/Throwable" "cause") ∈ lw_all := lw_g (lw_at lw_m2 115 rfl) rfl
theorem q463 : (Jvm.Cond.soleField "java/lang/Throwable" "stackTrace") ∈ lw_all := lw_g (lw_at lw_m2 116 rfl) rfl
theorem q464 : (Jvm.Cond.lays "java/lang/IllegalArgumentException" "java/lang/Throwable" "depth" "I") ∈ lw_all := lw_g (lw_at lw_m2 117 rfl) rfl
theorem q465 : (Jvm.Cond.soleField "java/lang/Throwable" "depth") ∈ lw_all := lw_g (lw_at lw_m2 118 rfl) rfl
theorem q466 : (Jvm.Cond.soleField "java/lang/Throwable" "suppressedExceptions") ∈ lw_all := lw_g (lw_at lw_m2 119 rfl) rfl
theorem q467 : (Jvm.Cond.superclass "java/lang/IllegalArgumentException" "java/lang/RuntimeException") ∈ lw_all := lw_g (lw_at lw_m2 120 rfl) rfl
theorem q468 : (Jvm.Cond.methodLink "java/lang/String" (1051 : Nat) ({ cls := "java/lang/StringUTF16", name := "compress", desc := "([BII)[B" } : Jvm.MethodName)) ∈ lw_all := lw_g (lw_at lw_m2 121 rfl) rfl
theorem q469 : (Jvm.Cond.static ({ cls := "java/lang/StringUTF16", name := "compress", desc := "([BII)[B" } : Jvm.MethodName)) ∈ lw_all := lw_g (lw_at lw_m2 122 rfl) rfl
theorem q470 : (Jvm.Cond.code ({ cls := "java/lang/StringUTF16", name := "compress", desc := "([BII)[B" } : Jvm.MethodName) prog_37_method_17_code (6 : Nat) (Option.some (Jvm.ClassFile.FieldType.array Jvm.ClassFile.FieldType.byte))) ∈ lw_all := lw_g (lw_at lw_m2 123 rfl) rfl
theorem q471 : (Jvm.Cond.methodLink "java/lang/StringUTF16" (123 : Nat) ({ cls := "java/lang/StringUTF16", name := "compress", desc := "([BI[BII)I" } : Jvm.MethodName)) ∈ lw_all := lw_g (lw_at lw_m2 124 rfl) rfl
theorem q472 : (Jvm.Cond.static ({ cls := "java/lang/StringUTF16", name := "compress", desc := "([BI[BII)I" } : Jvm.MethodName)) ∈ lw_all := lw_g (lw_at lw_m2 125 rfl) rfl
theorem q473 : (Jvm.Cond.code ({ cls := "java/lang/StringUTF16", name := "compress", desc := "([BI[BII)I" } : Jvm.MethodName) prog_37_method_22_code (7 : Nat) (Option.some Jvm.ClassFile.FieldType.int)) ∈ lw_all := lw_g (lw_at lw_m2 126 rfl) rfl
theorem q474 : (Jvm.Cond.methodLink "java/lang/StringUTF16" (71 : Nat) ({ cls := "java/lang/StringUTF16", name := "getChar", desc := "([BI)C" } : Jvm.MethodName)) ∈ lw_all := lw_g (lw_at lw_m2 127 rfl) rfl
theorem q475 : (Jvm.Cond.static ({ cls := "java/lang/StringUTF16", name := "getChar", desc := "([BI)C" } : Jvm.MethodName)) ∈ lw_all := lw_g (lw_at lw_m2 128 rfl) rfl
theorem q476 : (Jvm.Cond.code ({ cls := "java/lang/StringUTF16", name := "getChar", desc := "([BI)C" } : Jvm.MethodName) prog_37_method_5_code (2 : Nat) (Option.some Jvm.ClassFile.FieldType.char)) ∈ lw_all := lw_g (lw_at lw_m2 129 rfl) rfl
theorem q477 : (Jvm.Cond.methodLink "java/lang/StringUTF16" (126 : Nat) ({ cls := "java/util/Arrays", name := "copyOfRange", desc := "([BII)[B" } : Jvm.MethodName)) ∈ lw_all := lw_g (lw_at lw_m2 130 rfl) rfl
theorem q478 : (Jvm.Cond.methodLink "java/lang/String" (47 : Nat) ({ cls := "java/lang/StringUTF16", name := "coderFromArrayLen", desc := "([BI)B" } : Jvm.MethodName)) ∈ lw_all := lw_g (lw_at lw_m2 131 rfl) rfl
theorem q479 : (Jvm.Cond.static ({ cls := "java/lang/StringUTF16", name := "coderFromArrayLen", desc := "([BI)B" } : Jvm.MethodName)) ∈ lw_all := lw_g (lw_at lw_m2 132 rfl) rfl
theorem q480 : (Jvm.Cond.code ({ cls := "java/lang/StringUTF16", name := "coderFromArrayLen", desc := "([BI)B" } : Jvm.MethodName) prog_37_method_15_code (2 : Nat) (Option.some Jvm.ClassFile.FieldType.byte)) ∈ lw_all := lw_g (lw_at lw_m2 133 rfl) rfl
theorem q481 : (Jvm.Cond.fieldLink "java/lang/String" (9 : Nat) "java/lang/String" "value" "[B") ∈ lw_all := lw_g (lw_at lw_m2 134 rfl) rfl
theorem q482 : (Jvm.Cond.fieldLink "java/lang/String" (15 : Nat) "java/lang/String" "coder" "B") ∈ lw_all := lw_g (lw_at lw_m2 135 rfl) rfl
theorem q483 : (Jvm.Cond.fieldLink "java/lang/String" (19 : Nat) "java/lang/String" "hash" "I") ∈ lw_all := lw_g (lw_at lw_m2 136 rfl) rfl
theorem q484 : (Jvm.Cond.fieldLink "java/lang/String" (23 : Nat) "java/lang/String" "hashIsZero" "Z") ∈ lw_all := lw_g (lw_at lw_m2 137 rfl) rfl
theorem q485 : (Jvm.Cond.laysFinal "java/lang/String" "java/lang/String" "value" "[B") ∈ lw_all := lw_g (lw_at lw_m2 138 rfl) rfl
theorem q486 : (Jvm.Cond.soleField "java/lang/String" "value") ∈ lw_all := lw_g (lw_at lw_m2 139 rfl) rfl
theorem q487 : (Jvm.Cond.laysFinal "java/lang/String" "java/lang/String" "coder" "B") ∈ lw_all := lw_g (lw_at lw_m2 140 rfl) rfl
theorem q488 : (Jvm.Cond.soleField "java/lang/String" "coder") ∈ lw_all := lw_g (lw_at lw_m2 141 rfl) rfl
theorem q489 : (Jvm.Cond.lays "java/lang/String" "java/lang/String" "hash" "I") ∈ lw_all := lw_g (lw_at lw_m2 142 rfl) rfl
theorem q490 : (Jvm.Cond.soleField "java/lang/String" "hash") ∈ lw_all := lw_g (lw_at lw_m2 143 rfl) rfl
theorem q491 : (Jvm.Cond.lays "java/lang/String" "java/lang/String" "hashIsZero" "Z") ∈ lw_all := lw_g (lw_at lw_m2 144 rfl) rfl
theorem q492 : (Jvm.Cond.soleField "java/lang/String" "hashIsZero") ∈ lw_all := lw_g (lw_at lw_m2 145 rfl) rfl
theorem q493 : (Jvm.Cond.superclass "java/lang/String" "java/lang/Object") ∈ lw_all := lw_g (lw_at lw_m2 146 rfl) rfl
theorem q494 : (Jvm.Cond.methodLink "java/util/ArrayList" (36 : Nat) ({ cls := "java/lang/IllegalArgumentException", name := "<init>", desc := "(Ljava/lang/String;)V" } : Jvm.MethodName)) ∈ lw_all := lw_g (lw_at lw_m2 147 rfl) rfl
theorem q495 : (Jvm.Cond.fieldLink "java/util/ArrayList" (9 : Nat) "java/util/ArrayList" "elementData" "[Ljava/lang/Object;") ∈ lw_all := lw_g (lw_at lw_m2 148 rfl) rfl
theorem q496 : (Jvm.Cond.fieldLink "java/util/ArrayList$Itr" (37 : Nat) "java/util/ArrayList" "elementData" "[Ljava/lang/Object;") ∈ lw_all := lw_g (lw_at lw_m2 149 rfl) rfl
theorem q497 : (Jvm.Cond.fieldLinkNest "java/util/ArrayList$Itr" (28 : Nat) "java/util/ArrayList" "size" "I" "java/util/ArrayList") ∈ lw_tbl := lw_at lw_m2 150 rfl
theorem q498 : (Jvm.Cond.fieldLink "java/util/ArrayList" (48 : Nat) "java/util/ArrayList" "size" "I") ∈ lw_all := lw_g (lw_at lw_m2 151 rfl) rfl
theorem q499 : (Jvm.Cond.fieldLink "java/util/AbstractList" (7 : Nat) "java/util/AbstractList" "modCount" "I") ∈ lw_all := lw_g (lw_at lw_m2 152 rfl) rfl
theorem q500 : (Jvm.Cond.fieldLink "java/util/ArrayList$Itr" (17 : Nat) "java/util/ArrayList" "modCount" "I") ∈ lw_all := lw_g (lw_at lw_m2 153 rfl) rfl
theorem q501 : (Jvm.Cond.sameField "java/util/ArrayList" "java/util/AbstractList" "modCount" "I") ∈ lw_all := lw_g (lw_at lw_m2 154 rfl) rfl
theorem q502 : (Jvm.Cond.fieldLink "java/util/ArrayList" (63 : Nat) "java/util/ArrayList" "modCount" "I") ∈ lw_all := lw_g (lw_at lw_m2 155 rfl) rfl
theorem q503 : (Jvm.Cond.lays "java/util/ArrayList" "java/util/ArrayList" "elementData" "[Ljava/lang/Object;") ∈ lw_all := lw_g (lw_at lw_m2 156 rfl) rfl
theorem q504 : (Jvm.Cond.soleField "java/util/ArrayList" "elementData") ∈ lw_all := lw_g (lw_at lw_m2 157 rfl) rfl
theorem q505 : (Jvm.Cond.lays "java/util/ArrayList" "java/util/ArrayList" "size" "I") ∈ lw_all := lw_g (lw_at lw_m2 158 rfl) rfl
theorem q506 : (Jvm.Cond.soleField "java/util/ArrayList" "size") ∈ lw_all := lw_g (lw_at lw_m2 159 rfl) rfl
theorem q507 : (Jvm.Cond.lays "java/util/ArrayList" "java/util/AbstractList" "modCount" "I") ∈ lw_all := lw_g (lw_at lw_m2 160 rfl) rfl
theorem q508 : (Jvm.Cond.soleField "java/util/AbstractList" "modCount") ∈ lw_all := lw_g (lw_at lw_m2 161 rfl) rfl
theorem q509 : (Jvm.Cond.superclass "java/util/ArrayList" "java/util/AbstractList") ∈ lw_all := lw_g (lw_at lw_m2 162 rfl) rfl
theorem q510 : (Jvm.Cond.methodLink "CircuitDesk$Net" (33 : Nat) ({ cls := "CircuitDesk$Phase", name := "all", desc := "()[LCircuitDesk$Phase;" } : Jvm.MethodName)) ∈ lw_all := lw_g (lw_at lw_m2 163 rfl) rfl
theorem q511 : (Jvm.Cond.static ({ cls := "CircuitDesk$Phase", name := "all", desc := "()[LCircuitDesk$Phase;" } : Jvm.MethodName)) ∈ lw_all := lw_g (lw_at lw_m2 164 rfl) rfl
theorem q512 : (Jvm.Cond.code ({ cls := "CircuitDesk$Phase", name := "all", desc := "()[LCircuitDesk$Phase;" } : Jvm.MethodName) prog_11_method_3_code (0 : Nat) (Option.some (Jvm.ClassFile.FieldType.array (Jvm.ClassFile.FieldType.object "CircuitDesk$Phase")))) ∈ lw_all := lw_g (lw_at lw_m2 165 rfl) rfl
theorem q513 : (Jvm.Cond.classLink "CircuitDesk$Phase" (1 : Nat) "CircuitDesk$Phase") ∈ lw_all := lw_g (lw_at lw_m2 166 rfl) rfl
theorem q514 : (Jvm.Cond.arrayOver (Jvm.ClassFile.FieldType.object "CircuitDesk$Phase")) ∈ lw_tbl := lw_at lw_m2 167 rfl
theorem q515 : (Jvm.Cond.classLink "CircuitDesk$Phase" (3 : Nat) "CircuitDesk$Resting") ∈ lw_all := lw_g (lw_at lw_m2 168 rfl) rfl
theorem q516 : (Jvm.Cond.instantiable "CircuitDesk$Resting" (0 : Nat)) ∈ lw_all := lw_g (lw_at lw_m2 169 rfl) rfl
theorem q517 : (Jvm.Cond.methodLinkNest "CircuitDesk$Phase" (5 : Nat) ({ cls := "CircuitDesk$Resting", name := "<init>", desc := "()V" } : Jvm.MethodName) "CircuitDesk") ∈ lw_tbl := lw_at lw_m2 170 rfl
theorem q518 : (Jvm.Cond.instanceMethod ({ cls := "CircuitDesk$Resting", name := "<init>", desc := "()V" } : Jvm.MethodName)) ∈ lw_all := lw_g (lw_at lw_m2 171 rfl) rfl
theorem q519 : (Jvm.Cond.code ({ cls := "CircuitDesk$Resting", name := "<init>", desc := "()V" } : Jvm.MethodName) prog_12_method_1_code (1 : Nat) (Option.none : Option Jvm.ClassFile.FieldType)) ∈ lw_all := lw_g (lw_at lw_m2 172 rfl) rfl
theorem q520 : (Jvm.Cond.methodLink "CircuitDesk$Resting" (1 : Nat) ({ cls := "java/lang/Object", name := "<init>", desc := "()V" } : Jvm.MethodName)) ∈ lw_all := lw_g (lw_at lw_m2 173 rfl) rfl
theorem q521 : (Jvm.Cond.superclass "CircuitDesk$Resting" "java/lang/Object") ∈ lw_all := lw_g (lw_at lw_m2 174 rfl) rfl
theorem q522 : (Jvm.Cond.classLink "CircuitDesk$Phase" (9 : Nat) "CircuitDesk$Building") ∈ lw_all := lw_g (lw_at lw_m2 175 rfl) rfl
theorem q523 : (Jvm.Cond.instantiable "CircuitDesk$Building" (0 : Nat)) ∈ lw_all := lw_g (lw_at lw_m2 176 rfl) rfl
theorem q524 : (Jvm.Cond.methodLinkNest "CircuitDesk$Phase" (11 : Nat) ({ cls := "CircuitDesk$Building", name := "<init>", desc := "()V" } : Jvm.MethodName) "CircuitDesk") ∈ lw_tbl := lw_at lw_m2 177 rfl
theorem q525 : (Jvm.Cond.instanceMethod ({ cls := "CircuitDesk$Building", name := "<init>", desc := "()V" } : Jvm.MethodName)) ∈ lw_all := lw_g (lw_at lw_m2 178 rfl) rfl
theorem q526 : (Jvm.Cond.code ({ cls := "CircuitDesk$Building", name := "<init>", desc := "()V" } : Jvm.MethodName) prog_2_method_1_code (1 : Nat) (Option.none : Option Jvm.ClassFile.FieldType)) ∈ lw_all := lw_g (lw_at lw_m2 179 rfl) rfl
theorem q527 : (Jvm.Cond.methodLink "CircuitDesk$Building" (3 : Nat) ({ cls := "java/lang/Object", name := "<init>", desc := "()V" } : Jvm.MethodName)) ∈ lw_all := lw_g (lw_at lw_m2 180 rfl) rfl
theorem q528 : (Jvm.Cond.superclass "CircuitDesk$Building" "java/lang/Object") ∈ lw_all := lw_g (lw_at lw_m2 181 rfl) rfl
theorem q529 : (Jvm.Cond.classLink "CircuitDesk$Phase" (12 : Nat) "CircuitDesk$Draining") ∈ lw_all := lw_g (lw_at lw_m2 182 rfl) rfl
theorem q530 : (Jvm.Cond.instantiable "CircuitDesk$Draining" (0 : Nat)) ∈ lw_all := lw_g (lw_at lw_m2 183 rfl) rfl
theorem q531 : (Jvm.Cond.methodLinkNest "CircuitDesk$Phase" (14 : Nat) ({ cls := "CircuitDesk$Draining", name := "<init>", desc := "()V" } : Jvm.MethodName) "CircuitDesk") ∈ lw_tbl := lw_at lw_m2 184 rfl
theorem q532 : (Jvm.Cond.instanceMethod ({ cls := "CircuitDesk$Draining", name := "<init>", desc := "()V" } : Jvm.MethodName)) ∈ lw_all := lw_g (lw_at lw_m2 185 rfl) rfl
theorem q533 : (Jvm.Cond.code ({ cls := "CircuitDesk$Draining", name := "<init>", desc := "()V" } : Jvm.MethodName) prog_5_method_1_code (1 : Nat) (Option.none : Option Jvm.ClassFile.FieldType)) ∈ lw_all := lw_g (lw_at lw_m2 186 rfl) rfl
theorem q534 : (Jvm.Cond.methodLink "CircuitDesk$Draining" (3 : Nat) ({ cls := "java/lang/Object", name := "<init>", desc := "()V" } : Jvm.MethodName)) ∈ lw_all := lw_g (lw_at lw_m2 187 rfl) rfl
theorem q535 : (Jvm.Cond.superclass "CircuitDesk$Draining" "java/lang/Object") ∈ lw_all := lw_g (lw_at lw_m2 188 rfl) rfl
theorem q536 : (Jvm.Cond.classLink "CircuitDesk$Phase" (15 : Nat) "CircuitDesk$Clearing") ∈ lw_all := lw_g (lw_at lw_m2 189 rfl) rfl
theorem q537 : (Jvm.Cond.instantiable "CircuitDesk$Clearing" (0 : Nat)) ∈ lw_all := lw_g (lw_at lw_m2 190 rfl) rfl
theorem q538 : (Jvm.Cond.methodLinkNest "CircuitDesk$Phase" (17 : Nat) ({ cls := "CircuitDesk$Clearing", name := "<init>", desc := "()V" } : Jvm.MethodName) "CircuitDesk") ∈ lw_tbl := lw_at lw_m2 191 rfl
theorem q539 : (Jvm.Cond.instanceMethod ({ cls := "CircuitDesk$Clearing", name := "<init>", desc := "()V" } : Jvm.MethodName)) ∈ lw_all := lw_g (lw_at lw_m2 192 rfl) rfl
theorem q540 : (Jvm.Cond.code ({ cls := "CircuitDesk$Clearing", name := "<init>", desc := "()V" } : Jvm.MethodName) prog_4_method_1_code (1 : Nat) (Option.none : Option Jvm.ClassFile.FieldType)) ∈ lw_all := lw_g (lw_at lw_m2 193 rfl) rfl
theorem q541 : (Jvm.Cond.methodLink "CircuitDesk$Clearing" (3 : Nat) ({ cls := "java/lang/Object", name := "<init>", desc := "()V" } : Jvm.MethodName)) ∈ lw_all := lw_g (lw_at lw_m2 194 rfl) rfl
theorem q542 : (Jvm.Cond.superclass "CircuitDesk$Clearing" "java/lang/Object") ∈ lw_all := lw_g (lw_at lw_m2 195 rfl) rfl
theorem q543 : (Jvm.Cond.fieldLink "CircuitDesk$Net" (9 : Nat) "CircuitDesk$Net" "settings" "[I") ∈ lw_all := lw_g (lw_at lw_m2 196 rfl) rfl
theorem q544 : (Jvm.Cond.fieldLinkNest "CircuitDesk$Building" (49 : Nat) "CircuitDesk$Net" "settings" "[I" "CircuitDesk") ∈ lw_tbl := lw_at lw_m2 197 rfl
theorem q545 : (Jvm.Cond.fieldLinkNest "CircuitDesk$Parser" (144 : Nat) "CircuitDesk$Net" "settings" "[I" "CircuitDesk") ∈ lw_tbl := lw_at lw_m2 198 rfl
theorem q546 : (Jvm.Cond.fieldLinkNest "CircuitDesk" (126 : Nat) "CircuitDesk$Net" "settings" "[I" "CircuitDesk") ∈ lw_tbl := lw_at lw_m2 199 rfl
theorem q547 : (Jvm.Cond.fieldLink "CircuitDesk$Net" (20 : Nat) "CircuitDesk$Net" "nodes" "Ljava/util/ArrayList;") ∈ lw_all := lw_g (lw_at lw_m2 200 rfl) rfl
theorem q548 : (Jvm.Cond.fieldLinkNest "CircuitDesk$Search" (61 : Nat) "CircuitDesk$Net" "nodes" "Ljava/util/ArrayList;" "CircuitDesk") ∈ lw_tbl := lw_at lw_m2 201 rfl
theorem q549 : (Jvm.Cond.fieldLinkNest "CircuitDesk" (44 : Nat) "CircuitDesk$Net" "nodes" "Ljava/util/ArrayList;" "CircuitDesk") ∈ lw_tbl := lw_at lw_m2 202 rfl
theorem q550 : (Jvm.Cond.fieldLinkNest "CircuitDesk$Parser" (121 : Nat) "CircuitDesk$Net" "nodes" "Ljava/util/ArrayList;" "CircuitDesk") ∈ lw_tbl := lw_at lw_m2 203 rfl
theorem q551 : (Jvm.Cond.fieldLinkNest "CircuitDesk$Search" (23 : Nat) "CircuitDesk$Net" "links" "Ljava/util/ArrayList;" "CircuitDesk") ∈ lw_tbl := lw_at lw_m2 204 rfl
theorem q552 : (Jvm.Cond.fieldLink "CircuitDesk$Net" (24 : Nat) "CircuitDesk$Net" "links" "Ljava/util/ArrayList;") ∈ lw_all := lw_g (lw_at lw_m2 205 rfl) rfl
theorem q553 : (Jvm.Cond.fieldLinkNest "CircuitDesk" (68 : Nat) "CircuitDesk$Net" "links" "Ljava/util/ArrayList;" "CircuitDesk") ∈ lw_tbl := lw_at lw_m2 206 rfl
theorem q554 : (Jvm.Cond.fieldLinkNest "CircuitDesk$Parser" (151 : Nat) "CircuitDesk$Net" "links" "Ljava/util/ArrayList;" "CircuitDesk") ∈ lw_tbl := lw_at lw_m2 207 rfl
theorem q555 : (Jvm.Cond.fieldLink "CircuitDesk$Net" (27 : Nat) "CircuitDesk$Net" "circuits" "Ljava/util/ArrayList;") ∈ lw_all := lw_g (lw_at lw_m2 208 rfl) rfl
theorem q556 : (Jvm.Cond.fieldLinkNest "CircuitDesk$Building" (9 : Nat) "CircuitDesk$Net" "circuits" "Ljava/util/ArrayList;" "CircuitDesk") ∈ lw_tbl := lw_at lw_m2 209 rfl
theorem q557 : (Jvm.Cond.fieldLinkNest "CircuitDesk$Clearing" (9 : Nat) "CircuitDesk$Net" "circuits" "Ljava/util/ArrayList;" "CircuitDesk") ∈ lw_tbl := lw_at lw_m2 210 rfl
theorem q558 : (Jvm.Cond.fieldLinkNest "CircuitDesk$Draining" (9 : Nat) "CircuitDesk$Net" "circuits" "Ljava/util/ArrayList;" "CircuitDesk") ∈ lw_tbl := lw_at lw_m2 211 rfl
theorem q559 : (Jvm.Cond.fieldLinkNest "CircuitDesk" (73 : Nat) "CircuitDesk$Net" "circuits" "Ljava/util/ArrayList;" "CircuitDesk") ∈ lw_tbl := lw_at lw_m2 212 rfl
theorem q560 : (Jvm.Cond.fieldLinkNest "CircuitDesk$Parser" (163 : Nat) "CircuitDesk$Net" "circuits" "Ljava/util/ArrayList;" "CircuitDesk") ∈ lw_tbl := lw_at lw_m2 213 rfl
theorem q561 : (Jvm.Cond.fieldLink "CircuitDesk$Net" (30 : Nat) "CircuitDesk$Net" "packets" "Ljava/util/ArrayList;") ∈ lw_all := lw_g (lw_at lw_m2 214 rfl) rfl
theorem q562 : (Jvm.Cond.fieldLinkNest "CircuitDesk" (156 : Nat) "CircuitDesk$Net" "packets" "Ljava/util/ArrayList;" "CircuitDesk") ∈ lw_tbl := lw_at lw_m2 215 rfl
theorem q563 : (Jvm.Cond.fieldLink "CircuitDesk$Net" (39 : Nat) "CircuitDesk$Net" "phases" "[LCircuitDesk$Phase;") ∈ lw_all := lw_g (lw_at lw_m2 216 rfl) rfl
theorem q564 : (Jvm.Cond.fieldLink "CircuitDesk$Net" (87 : Nat) "CircuitDesk$Net" "time" "I") ∈ lw_all := lw_g (lw_at lw_m2 217 rfl) rfl
theorem q565 : (Jvm.Cond.fieldLinkNest "CircuitDesk" (153 : Nat) "CircuitDesk$Net" "time" "I" "CircuitDesk") ∈ lw_tbl := lw_at lw_m2 218 rfl
theorem q566 : (Jvm.Cond.fieldLink "CircuitDesk$Net" (91 : Nat) "CircuitDesk$Net" "sent" "I") ∈ lw_all := lw_g (lw_at lw_m2 219 rfl) rfl
theorem q567 : (Jvm.Cond.fieldLinkNest "CircuitDesk" (159 : Nat) "CircuitDesk$Net" "sent" "I" "CircuitDesk") ∈ lw_tbl := lw_at lw_m2 220 rfl
theorem q568 : (Jvm.Cond.fieldLink "CircuitDesk$Net" (94 : Nat) "CircuitDesk$Net" "delivered" "I") ∈ lw_all := lw_g (lw_at lw_m2 221 rfl) rfl
theorem q569 : (Jvm.Cond.fieldLinkNest "CircuitDesk" (162 : Nat) "CircuitDesk$Net" "delivered" "I" "CircuitDesk") ∈ lw_tbl := lw_at lw_m2 222 rfl
theorem q570 : (Jvm.Cond.fieldLink "CircuitDesk$Net" (97 : Nat) "CircuitDesk$Net" "lost" "I") ∈ lw_all := lw_g (lw_at lw_m2 223 rfl) rfl
theorem q571 : (Jvm.Cond.fieldLinkNest "CircuitDesk" (165 : Nat) "CircuitDesk$Net" "lost" "I" "CircuitDesk") ∈ lw_tbl := lw_at lw_m2 224 rfl
theorem q572 : (Jvm.Cond.fieldLink "CircuitDesk$Net" (100 : Nat) "CircuitDesk$Net" "dropped" "I") ∈ lw_all := lw_g (lw_at lw_m2 225 rfl) rfl
theorem q573 : (Jvm.Cond.fieldLinkNest "CircuitDesk" (168 : Nat) "CircuitDesk$Net" "dropped" "I" "CircuitDesk") ∈ lw_tbl := lw_at lw_m2 226 rfl
theorem q574 : (Jvm.Cond.fieldLink "CircuitDesk$Net" (103 : Nat) "CircuitDesk$Net" "late" "I") ∈ lw_all := lw_g (lw_at lw_m2 227 rfl) rfl
theorem q575 : (Jvm.Cond.fieldLinkNest "CircuitDesk" (171 : Nat) "CircuitDesk$Net" "late" "I" "CircuitDesk") ∈ lw_tbl := lw_at lw_m2 228 rfl
theorem q576 : (Jvm.Cond.fieldLinkNest "CircuitDesk$Clearing" (50 : Nat) "CircuitDesk$Net" "completed" "I" "CircuitDesk") ∈ lw_tbl := lw_at lw_m2 229 rfl
theorem q577 : (Jvm.Cond.fieldLink "CircuitDesk$Net" (106 : Nat) "CircuitDesk$Net" "completed" "I") ∈ lw_all := lw_g (lw_at lw_m2 230 rfl) rfl
theorem q578 : (Jvm.Cond.fieldLinkNest "CircuitDesk" (180 : Nat) "CircuitDesk$Net" "completed" "I" "CircuitDesk") ∈ lw_tbl := lw_at lw_m2 231 rfl
theorem q579 : (Jvm.Cond.fieldLink "CircuitDesk$Net" (109 : Nat) "CircuitDesk$Net" "aborted" "I") ∈ lw_all := lw_g (lw_at lw_m2 232 rfl) rfl
theorem q580 : (Jvm.Cond.fieldLinkNest "CircuitDesk" (183 : Nat) "CircuitDesk$Net" "aborted" "I" "CircuitDesk") ∈ lw_tbl := lw_at lw_m2 233 rfl
theorem q581 : (Jvm.Cond.lays "CircuitDesk$Net" "CircuitDesk$Net" "settings" "[I") ∈ lw_all := lw_g (lw_at lw_m2 234 rfl) rfl
theorem q582 : (Jvm.Cond.soleField "CircuitDesk$Net" "settings") ∈ lw_all := lw_g (lw_at lw_m2 235 rfl) rfl
theorem q583 : (Jvm.Cond.laysFinal "CircuitDesk$Net" "CircuitDesk$Net" "nodes" "Ljava/util/ArrayList;") ∈ lw_all := lw_g (lw_at lw_m2 236 rfl) rfl
theorem q584 : (Jvm.Cond.soleField "CircuitDesk$Net" "nodes") ∈ lw_all := lw_g (lw_at lw_m2 237 rfl) rfl
theorem q585 : (Jvm.Cond.laysFinal "CircuitDesk$Net" "CircuitDesk$Net" "links" "Ljava/util/ArrayList;") ∈ lw_all := lw_g (lw_at lw_m2 238 rfl) rfl
theorem q586 : (Jvm.Cond.soleField "CircuitDesk$Net" "links") ∈ lw_all := lw_g (lw_at lw_m2 239 rfl) rfl
theorem q587 : (Jvm.Cond.laysFinal "CircuitDesk$Net" "CircuitDesk$Net" "circuits" "Ljava/util/ArrayList;") ∈ lw_all := lw_g (lw_at lw_m3 0 rfl) rfl
theorem q588 : (Jvm.Cond.soleField "CircuitDesk$Net" "circuits") ∈ lw_all := lw_g (lw_at lw_m3 1 rfl) rfl
theorem q589 : (Jvm.Cond.laysFinal "CircuitDesk$Net" "CircuitDesk$Net" "packets" "Ljava/util/ArrayList;") ∈ lw_all := lw_g (lw_at lw_m3 2 rfl) rfl
theorem q590 : (Jvm.Cond.soleField "CircuitDesk$Net" "packets") ∈ lw_all := lw_g (lw_at lw_m3 3 rfl) rfl
theorem q591 : (Jvm.Cond.laysFinal "CircuitDesk$Net" "CircuitDesk$Net" "phases" "[LCircuitDesk$Phase;") ∈ lw_all := lw_g (lw_at lw_m3 4 rfl) rfl
theorem q592 : (Jvm.Cond.soleField "CircuitDesk$Net" "phases") ∈ lw_all := lw_g (lw_at lw_m3 5 rfl) rfl
theorem q593 : (Jvm.Cond.lays "CircuitDesk$Net" "CircuitDesk$Net" "time" "I") ∈ lw_all := lw_g (lw_at lw_m3 6 rfl) rfl
theorem q594 : (Jvm.Cond.soleField "CircuitDesk$Net" "time") ∈ lw_all := lw_g (lw_at lw_m3 7 rfl) rfl
theorem q595 : (Jvm.Cond.lays "CircuitDesk$Net" "CircuitDesk$Net" "sent" "I") ∈ lw_all := lw_g (lw_at lw_m3 8 rfl) rfl
theorem q596 : (Jvm.Cond.soleField "CircuitDesk$Net" "sent") ∈ lw_all := lw_g (lw_at lw_m3 9 rfl) rfl
theorem q597 : (Jvm.Cond.lays "CircuitDesk$Net" "CircuitDesk$Net" "delivered" "I") ∈ lw_all := lw_g (lw_at lw_m3 10 rfl) rfl
theorem q598 : (Jvm.Cond.soleField "CircuitDesk$Net" "delivered") ∈ lw_all := lw_g (lw_at lw_m3 11 rfl) rfl
theorem q599 : (Jvm.Cond.lays "CircuitDesk$Net" "CircuitDesk$Net" "lost" "I") ∈ lw_all := lw_g (lw_at lw_m3 12 rfl) rfl
theorem q600 : (Jvm.Cond.soleField "CircuitDesk$Net" "lost") ∈ lw_all := lw_g (lw_at lw_m3 13 rfl) rfl
theorem q601 : (Jvm.Cond.lays "CircuitDesk$Net" "CircuitDesk$Net" "dropped" "I") ∈ lw_all := lw_g (lw_at lw_m3 14 rfl) rfl
theorem q602 : (Jvm.Cond.soleField "CircuitDesk$Net" "dropped") ∈ lw_all := lw_g (lw_at lw_m3 15 rfl) rfl
theorem q603 : (Jvm.Cond.lays "CircuitDesk$Net" "CircuitDesk$Net" "late" "I") ∈ lw_all := lw_g (lw_at lw_m3 16 rfl) rfl
theorem q604 : (Jvm.Cond.soleField "CircuitDesk$Net" "late") ∈ lw_all := lw_g (lw_at lw_m3 17 rfl) rfl
theorem q605 : (Jvm.Cond.lays "CircuitDesk$Net" "CircuitDesk$Net" "completed" "I") ∈ lw_all := lw_g (lw_at lw_m3 18 rfl) rfl
theorem q606 : (Jvm.Cond.soleField "CircuitDesk$Net" "completed") ∈ lw_all := lw_g (lw_at lw_m3 19 rfl) rfl
theorem q607 : (Jvm.Cond.lays "CircuitDesk$Net" "CircuitDesk$Net" "aborted" "I") ∈ lw_all := lw_g (lw_at lw_m3 20 rfl) rfl
theorem q608 : (Jvm.Cond.soleField "CircuitDesk$Net" "aborted") ∈ lw_all := lw_g (lw_at lw_m3 21 rfl) rfl
theorem q609 : (Jvm.Cond.superclass "CircuitDesk$Net" "java/lang/Object") ∈ lw_all := lw_g (lw_at lw_m3 22 rfl) rfl
theorem q610 : (Jvm.Cond.classLink "CircuitDesk" (25 : Nat) "CircuitDesk$Way") ∈ lw_all := lw_g (lw_at lw_m3 23 rfl) rfl
theorem q611 : (Jvm.Cond.instantiable "CircuitDesk$Way" (4 : Nat)) ∈ lw_all := lw_g (lw_at lw_m3 24 rfl) rfl
theorem q612 : (Jvm.Cond.methodLinkNest "CircuitDesk" (27 : Nat) ({ cls := "CircuitDesk$Way", name := "<init>", desc := "()V" } : Jvm.MethodName) "CircuitDesk") ∈ lw_tbl := lw_at lw_m3 25 rfl
theorem q613 : (Jvm.Cond.instanceMethod ({ cls := "CircuitDesk$Way", name := "<init>", desc := "()V" } : Jvm.MethodName)) ∈ lw_all := lw_g (lw_at lw_m3 26 rfl) rfl
theorem q614 : (Jvm.Cond.code ({ cls := "CircuitDesk$Way", name := "<init>", desc := "()V" } : Jvm.MethodName) prog_15_method_1_code (1 : Nat) (Option.none : Option Jvm.ClassFile.FieldType)) ∈ lw_all := lw_g (lw_at lw_m3 27 rfl) rfl
theorem q615 : (Jvm.Cond.methodLink "CircuitDesk$Way" (3 : Nat) ({ cls := "java/lang/Object", name := "<init>", desc := "()V" } : Jvm.MethodName)) ∈ lw_all := lw_g (lw_at lw_m3 28 rfl) rfl
theorem q616 : (Jvm.Cond.fieldLink "CircuitDesk$Way" (9 : Nat) "CircuitDesk$Way" "nodes" "[I") ∈ lw_all := lw_g (lw_at lw_m3 29 rfl) rfl
theorem q617 : (Jvm.Cond.fieldLinkNest "CircuitDesk$Net" (138 : Nat) "CircuitDesk$Way" "nodes" "[I" "CircuitDesk") ∈ lw_tbl := lw_at lw_m3 30 rfl
theorem q618 : (Jvm.Cond.fieldLinkNest "CircuitDesk" (257 : Nat) "CircuitDesk$Way" "nodes" "[I" "CircuitDesk") ∈ lw_tbl := lw_at lw_m3 31 rfl
theorem q619 : (Jvm.Cond.fieldLink "CircuitDesk$Way" (15 : Nat) "CircuitDesk$Way" "spaces" "[I") ∈ lw_all := lw_g (lw_at lw_m3 32 rfl) rfl
theorem q620 : (Jvm.Cond.fieldLinkNest "CircuitDesk$Net" (196 : Nat) "CircuitDesk$Way" "spaces" "[I" "CircuitDesk") ∈ lw_tbl := lw_at lw_m3 33 rfl
theorem q621 : (Jvm.Cond.fieldLinkNest "CircuitDesk" (347 : Nat) "CircuitDesk$Way" "spaces" "[I" "CircuitDesk") ∈ lw_tbl := lw_at lw_m3 34 rfl
theorem q622 : (Jvm.Cond.fieldLink "CircuitDesk$Way" (18 : Nat) "CircuitDesk$Way" "labels" "[I") ∈ lw_all := lw_g (lw_at lw_m3 35 rfl) rfl
theorem q623 : (Jvm.Cond.fieldLinkNest "CircuitDesk$Net" (199 : Nat) "CircuitDesk$Way" "labels" "[I" "CircuitDesk") ∈ lw_tbl := lw_at lw_m3 36 rfl
theorem q624 : (Jvm.Cond.fieldLinkNest "CircuitDesk" (350 : Nat) "CircuitDesk$Way" "labels" "[I" "CircuitDesk") ∈ lw_tbl := lw_at lw_m3 37 rfl
theorem q625 : (Jvm.Cond.fieldLinkNest "CircuitDesk$Building" (31 : Nat) "CircuitDesk$Way" "size" "I" "CircuitDesk") ∈ lw_tbl := lw_at lw_m3 38 rfl
theorem q626 : (Jvm.Cond.fieldLinkNest "CircuitDesk$Search" (46 : Nat) "CircuitDesk$Way" "size" "I" "CircuitDesk") ∈ lw_tbl := lw_at lw_m3 39 rfl
theorem q627 : (Jvm.Cond.fieldLinkNest "CircuitDesk$Clearing" (35 : Nat) "CircuitDesk$Way" "size" "I" "CircuitDesk") ∈ lw_tbl := lw_at lw_m3 40 rfl
theorem q628 : (Jvm.Cond.fieldLink "CircuitDesk$Way" (27 : Nat) "CircuitDesk$Way" "size" "I") ∈ lw_all := lw_g (lw_at lw_m3 41 rfl) rfl
theorem q629 : (Jvm.Cond.fieldLinkNest "CircuitDesk$Net" (134 : Nat) "CircuitDesk$Way" "size" "I" "CircuitDesk") ∈ lw_tbl := lw_at lw_m3 42 rfl
theorem q630 : (Jvm.Cond.fieldLinkNest "CircuitDesk$Parser" (177 : Nat) "CircuitDesk$Way" "size" "I" "CircuitDesk") ∈ lw_tbl := lw_at lw_m3 43 rfl
theorem q631 : (Jvm.Cond.fieldLinkNest "CircuitDesk" (186 : Nat) "CircuitDesk$Way" "size" "I" "CircuitDesk") ∈ lw_tbl := lw_at lw_m3 44 rfl
theorem q632 : (Jvm.Cond.lays "CircuitDesk$Way" "CircuitDesk$Way" "nodes" "[I") ∈ lw_all := lw_g (lw_at lw_m3 45 rfl) rfl
theorem q633 : (Jvm.Cond.soleField "CircuitDesk$Way" "nodes") ∈ lw_all := lw_g (lw_at lw_m3 46 rfl) rfl
theorem q634 : (Jvm.Cond.lays "CircuitDesk$Way" "CircuitDesk$Way" "spaces" "[I") ∈ lw_all := lw_g (lw_at lw_m3 47 rfl) rfl
theorem q635 : (Jvm.Cond.soleField "CircuitDesk$Way" "spaces") ∈ lw_all := lw_g (lw_at lw_m3 48 rfl) rfl
theorem q636 : (Jvm.Cond.lays "CircuitDesk$Way" "CircuitDesk$Way" "labels" "[I") ∈ lw_all := lw_g (lw_at lw_m3 49 rfl) rfl
theorem q637 : (Jvm.Cond.soleField "CircuitDesk$Way" "labels") ∈ lw_all := lw_g (lw_at lw_m3 50 rfl) rfl
theorem q638 : (Jvm.Cond.lays "CircuitDesk$Way" "CircuitDesk$Way" "size" "I") ∈ lw_all := lw_g (lw_at lw_m3 51 rfl) rfl
theorem q639 : (Jvm.Cond.soleField "CircuitDesk$Way" "size") ∈ lw_all := lw_g (lw_at lw_m3 52 rfl) rfl
theorem q640 : (Jvm.Cond.superclass "CircuitDesk$Way" "java/lang/Object") ∈ lw_all := lw_g (lw_at lw_m3 53 rfl) rfl
theorem q641 : (Jvm.Cond.arrayOver (Jvm.ClassFile.FieldType.object "CircuitDesk$Net")) ∈ lw_tbl := lw_at lw_m3 54 rfl
theorem q642 : (Jvm.Cond.fieldLink "CircuitDesk" (19 : Nat) "CircuitDesk" "now" "LCircuitDesk$Net;") ∈ lw_all := lw_g (lw_at lw_m3 55 rfl) rfl
theorem q643 : (Jvm.Cond.fieldLink "CircuitDesk" (28 : Nat) "CircuitDesk" "draft" "LCircuitDesk$Way;") ∈ lw_all := lw_g (lw_at lw_m3 56 rfl) rfl
theorem q644 : (Jvm.Cond.fieldLink "CircuitDesk" (32 : Nat) "CircuitDesk" "saved" "[LCircuitDesk$Net;") ∈ lw_all := lw_g (lw_at lw_m3 57 rfl) rfl
theorem q645 : (Jvm.Cond.fieldLinkNest "CircuitDesk$Parser" (35 : Nat) "CircuitDesk" "text" "[B" "CircuitDesk") ∈ lw_tbl := lw_at lw_m3 58 rfl
theorem q646 : (Jvm.Cond.fieldLink "CircuitDesk" (36 : Nat) "CircuitDesk" "text" "[B") ∈ lw_all := lw_g (lw_at lw_m3 59 rfl) rfl
theorem q647 : (Jvm.Cond.fieldLink "CircuitDesk" (395 : Nat) "CircuitDesk" "textLength" "I") ∈ lw_all := lw_g (lw_at lw_m3 60 rfl) rfl
theorem q648 : (Jvm.Cond.fieldLink "CircuitDesk" (403 : Nat) "CircuitDesk" "errorCode" "I") ∈ lw_all := lw_g (lw_at lw_m3 61 rfl) rfl
theorem q649 : (Jvm.Cond.fieldLink "CircuitDesk" (40 : Nat) "CircuitDesk" "errorPosition" "I") ∈ lw_all := lw_g (lw_at lw_m3 62 rfl) rfl
theorem q650 : (Jvm.Cond.lays "CircuitDesk" "CircuitDesk" "now" "LCircuitDesk$Net;") ∈ lw_all := lw_g (lw_at lw_m3 63 rfl) rfl
theorem q651 : (Jvm.Cond.soleField "CircuitDesk" "now") ∈ lw_all := lw_g (lw_at lw_m3 64 rfl) rfl
theorem q652 : (Jvm.Cond.lays "CircuitDesk" "CircuitDesk" "draft" "LCircuitDesk$Way;") ∈ lw_all := lw_g (lw_at lw_m3 65 rfl) rfl
theorem q653 : (Jvm.Cond.soleField "CircuitDesk" "draft") ∈ lw_all := lw_g (lw_at lw_m3 66 rfl) rfl
theorem q654 : (Jvm.Cond.laysFinal "CircuitDesk" "CircuitDesk" "saved" "[LCircuitDesk$Net;") ∈ lw_all := lw_g (lw_at lw_m3 67 rfl) rfl
theorem q655 : (Jvm.Cond.soleField "CircuitDesk" "saved") ∈ lw_all := lw_g (lw_at lw_m3 68 rfl) rfl
theorem q656 : (Jvm.Cond.laysFinal "CircuitDesk" "CircuitDesk" "text" "[B") ∈ lw_all := lw_g (lw_at lw_m3 69 rfl) rfl
theorem q657 : (Jvm.Cond.soleField "CircuitDesk" "text") ∈ lw_all := lw_g (lw_at lw_m3 70 rfl) rfl
theorem q658 : (Jvm.Cond.lays "CircuitDesk" "CircuitDesk" "textLength" "I") ∈ lw_all := lw_g (lw_at lw_m3 71 rfl) rfl
theorem q659 : (Jvm.Cond.soleField "CircuitDesk" "textLength") ∈ lw_all := lw_g (lw_at lw_m3 72 rfl) rfl
theorem q660 : (Jvm.Cond.lays "CircuitDesk" "CircuitDesk" "errorCode" "I") ∈ lw_all := lw_g (lw_at lw_m3 73 rfl) rfl
theorem q661 : (Jvm.Cond.soleField "CircuitDesk" "errorCode") ∈ lw_all := lw_g (lw_at lw_m3 74 rfl) rfl
theorem q662 : (Jvm.Cond.lays "CircuitDesk" "CircuitDesk" "errorPosition" "I") ∈ lw_all := lw_g (lw_at lw_m3 75 rfl) rfl
theorem q663 : (Jvm.Cond.soleField "CircuitDesk" "errorPosition") ∈ lw_all := lw_g (lw_at lw_m3 76 rfl) rfl
theorem q664 : (Jvm.Cond.superclass "CircuitDesk" "java/lang/Object") ∈ lw_all := lw_g (lw_at lw_m3 77 rfl) rfl
theorem q665 : (Jvm.Cond.methodLink "CircuitDeskLaw" (170 : Nat) ({ cls := "CircuitDesk", name := "clearDraft", desc := "()I" } : Jvm.MethodName)) ∈ lw_all := lw_g (lw_at lw_m3 78 rfl) rfl
theorem q666 : (Jvm.Cond.instanceMethod ({ cls := "CircuitDesk", name := "clearDraft", desc := "()I" } : Jvm.MethodName)) ∈ lw_all := lw_g (lw_at lw_m3 79 rfl) rfl
theorem q667 : (Jvm.Cond.selects "CircuitDesk" ({ cls := "CircuitDesk", name := "clearDraft", desc := "()I" } : Jvm.MethodName) ({ cls := "CircuitDesk", name := "clearDraft", desc := "()I" } : Jvm.MethodName)) ∈ lw_all := lw_g (lw_at lw_m3 80 rfl) rfl
theorem q668 : (Jvm.Cond.code ({ cls := "CircuitDesk", name := "clearDraft", desc := "()I" } : Jvm.MethodName) prog_1_method_23_code (2 : Nat) (Option.some Jvm.ClassFile.FieldType.int)) ∈ lw_all := lw_g (lw_at lw_m3 81 rfl) rfl
theorem q669 : (Jvm.Cond.methodLink "CircuitDeskLaw" (215 : Nat) ({ cls := "CircuitDesk", name := "usage", desc := "()F" } : Jvm.MethodName)) ∈ lw_all := lw_g (lw_at lw_m3 82 rfl) rfl
theorem q670 : (Jvm.Cond.instanceMethod ({ cls := "CircuitDesk", name := "usage", desc := "()F" } : Jvm.MethodName)) ∈ lw_all := lw_g (lw_at lw_m3 83 rfl) rfl
theorem q671 : (Jvm.Cond.selects "CircuitDesk" ({ cls := "CircuitDesk", name := "usage", desc := "()F" } : Jvm.MethodName) ({ cls := "CircuitDesk", name := "usage", desc := "()F" } : Jvm.MethodName)) ∈ lw_all := lw_g (lw_at lw_m3 84 rfl) rfl
theorem q672 : (Jvm.Cond.code ({ cls := "CircuitDesk", name := "usage", desc := "()F" } : Jvm.MethodName) prog_1_method_41_code (4 : Nat) (Option.some Jvm.ClassFile.FieldType.float)) ∈ lw_all := lw_g (lw_at lw_m3 85 rfl) rfl
theorem q673 : (Jvm.Cond.methodLink "CircuitDesk" (48 : Nat) ({ cls := "java/util/ArrayList", name := "size", desc := "()I" } : Jvm.MethodName)) ∈ lw_all := lw_g (lw_at lw_m3 86 rfl) rfl
theorem q674 : (Jvm.Cond.instanceMethod ({ cls := "java/util/ArrayList", name := "size", desc := "()I" } : Jvm.MethodName)) ∈ lw_all := lw_g (lw_at lw_m3 87 rfl) rfl
theorem q675 : (Jvm.Cond.selects "java/util/ArrayList" ({ cls := "java/util/ArrayList", name := "size", desc := "()I" } : Jvm.MethodName) ({ cls := "java/util/ArrayList", name := "size", desc := "()I" } : Jvm.MethodName)) ∈ lw_all := lw_g (lw_at lw_m3 88 rfl) rfl
theorem q676 : (Jvm.Cond.code ({ cls := "java/util/ArrayList", name := "size", desc := "()I" } : Jvm.MethodName) prog_45_method_8_code (1 : Nat) (Option.some Jvm.ClassFile.FieldType.int)) ∈ lw_all := lw_g (lw_at lw_m3 89 rfl) rfl
theorem q677 : (Jvm.Cond.methodLink "CircuitDesk" (232 : Nat) ({ cls := "CircuitDesk$Net", name := "reserved", desc := "(II)I" } : Jvm.MethodName)) ∈ lw_all := lw_g (lw_at lw_m3 90 rfl) rfl
theorem q678 : (Jvm.Cond.instanceMethod ({ cls := "CircuitDesk$Net", name := "reserved", desc := "(II)I" } : Jvm.MethodName)) ∈ lw_all := lw_g (lw_at lw_m3 91 rfl) rfl
theorem q679 : (Jvm.Cond.selects "CircuitDesk$Net" ({ cls := "CircuitDesk$Net", name := "reserved", desc := "(II)I" } : Jvm.MethodName) ({ cls := "CircuitDesk$Net", name := "reserved", desc := "(II)I" } : Jvm.MethodName)) ∈ lw_all := lw_g (lw_at lw_m3 92 rfl) rfl
theorem q680 : (Jvm.Cond.code ({ cls := "CircuitDesk$Net", name := "reserved", desc := "(II)I" } : Jvm.MethodName) prog_7_method_8_code (6 : Nat) (Option.some Jvm.ClassFile.FieldType.int)) ∈ lw_all := lw_g (lw_at lw_m3 93 rfl) rfl
theorem q681 : (Jvm.Cond.methodLink "CircuitDesk$Net" (112 : Nat) ({ cls := "java/util/ArrayList", name := "size", desc := "()I" } : Jvm.MethodName)) ∈ lw_all := lw_g (lw_at lw_m3 94 rfl) rfl
theorem q682 : (Jvm.Cond.methodLink "CircuitDesk$Net" (116 : Nat) ({ cls := "java/util/ArrayList", name := "get", desc := "(I)Ljava/lang/Object;" } : Jvm.MethodName)) ∈ lw_all := lw_g (lw_at lw_m3 95 rfl) rfl
theorem q683 : (Jvm.Cond.instanceMethod ({ cls := "java/util/ArrayList", name := "get", desc := "(I)Ljava/lang/Object;" } : Jvm.MethodName)) ∈ lw_all := lw_g (lw_at lw_m3 96 rfl) rfl
theorem q684 : (Jvm.Cond.selects "java/util/ArrayList" ({ cls := "java/util/ArrayList", name := "get", desc := "(I)Ljava/lang/Object;" } : Jvm.MethodName) ({ cls := "java/util/ArrayList", name := "get", desc := "(I)Ljava/lang/Object;" } : Jvm.MethodName)) ∈ lw_all := lw_g (lw_at lw_m3 97 rfl) rfl
theorem q685 : (Jvm.Cond.code ({ cls := "java/util/ArrayList", name := "get", desc := "(I)Ljava/lang/Object;" } : Jvm.MethodName) prog_45_method_20_code (2 : Nat) (Option.some (Jvm.ClassFile.FieldType.object "java/lang/Object"))) ∈ lw_all := lw_g (lw_at lw_m3 98 rfl) rfl
theorem q686 : (Jvm.Cond.methodLink "java/util/ArrayList" (118 : Nat) ({ cls := "java/util/Objects", name := "checkIndex", desc := "(II)I" } : Jvm.MethodName)) ∈ lw_all := lw_g (lw_at lw_m3 99 rfl) rfl
theorem q687 : (Jvm.Cond.static ({ cls := "java/util/Objects", name := "checkIndex", desc := "(II)I" } : Jvm.MethodName)) ∈ lw_all := lw_g (lw_at lw_m3 100 rfl) rfl
theorem q688 : (Jvm.Cond.code ({ cls := "java/util/Objects", name := "checkIndex", desc := "(II)I" } : Jvm.MethodName) prog_51_method_17_code (2 : Nat) (Option.some Jvm.ClassFile.FieldType.int)) ∈ lw_all := lw_g (lw_at lw_m3 101 rfl) rfl
theorem q689 : (Jvm.Cond.methodLink "java/util/Objects" (105 : Nat) ({ cls := "jdk/internal/util/Preconditions", name := "checkIndex", desc := "(IILjava/util/function/BiFunction;)I" } : Jvm.MethodName)) ∈ lw_all := lw_g (lw_at lw_m3 102 rfl) rfl
theorem q690 : (Jvm.Cond.static ({ cls := "jdk/internal/util/Preconditions", name := "checkIndex", desc := "(IILjava/util/function/BiFunction;)I" } : Jvm.MethodName)) ∈ lw_all := lw_g (lw_at lw_m3 103 rfl) rfl
theorem q691 : (Jvm.Cond.code ({ cls := "jdk/internal/util/Preconditions", name := "checkIndex", desc := "(IILjava/util/function/BiFunction;)I" } : Jvm.MethodName) prog_56_method_11_code (3 : Nat) (Option.some Jvm.ClassFile.FieldType.int)) ∈ lw_all := lw_g (lw_at lw_m3 104 rfl) rfl
theorem q692 : (Jvm.Cond.methodLink "java/util/ArrayList" (123 : Nat) ({ cls := "java/util/ArrayList", name := "elementData", desc := "(I)Ljava/lang/Object;" } : Jvm.MethodName)) ∈ lw_all := lw_g (lw_at lw_m3 105 rfl) rfl
theorem q693 : (Jvm.Cond.instanceMethod ({ cls := "java/util/ArrayList", name := "elementData", desc := "(I)Ljava/lang/Object;" } : Jvm.MethodName)) ∈ lw_all := lw_g (lw_at lw_m3 106 rfl) rfl
theorem q694 : (Jvm.Cond.selects "java/util/ArrayList" ({ cls := "java/util/ArrayList", name := "elementData", desc := "(I)Ljava/lang/Object;" } : Jvm.MethodName) ({ cls := "java/util/ArrayList", name := "elementData", desc := "(I)Ljava/lang/Object;" } : Jvm.MethodName)) ∈ lw_all := lw_g (lw_at lw_m3 107 rfl) rfl
theorem q695 : (Jvm.Cond.code ({ cls := "java/util/ArrayList", name := "elementData", desc := "(I)Ljava/lang/Object;" } : Jvm.MethodName) prog_45_method_18_code (2 : Nat) (Option.some (Jvm.ClassFile.FieldType.object "java/lang/Object"))) ∈ lw_all := lw_g (lw_at lw_m3 108 rfl) rfl
theorem q696 : (Jvm.Cond.classLink "CircuitDesk$Net" (77 : Nat) "CircuitDesk$Circuit") ∈ lw_all := lw_g (lw_at lw_m3 109 rfl) rfl
theorem q697 : (Jvm.Cond.methodLink "CircuitDesk$Net" (147 : Nat) ({ cls := "CircuitDesk$Net", name := "uses", desc := "(LCircuitDesk$Way;I)Z" } : Jvm.MethodName)) ∈ lw_all := lw_g (lw_at lw_m3 110 rfl) rfl
theorem q698 : (Jvm.Cond.instanceMethod ({ cls := "CircuitDesk$Net", name := "uses", desc := "(LCircuitDesk$Way;I)Z" } : Jvm.MethodName)) ∈ lw_all := lw_g (lw_at lw_m3 111 rfl) rfl
theorem q699 : (Jvm.Cond.selects "CircuitDesk$Net" ({ cls := "CircuitDesk$Net", name := "uses", desc := "(LCircuitDesk$Way;I)Z" } : Jvm.MethodName) ({ cls := "CircuitDesk$Net", name := "uses", desc := "(LCircuitDesk$Way;I)Z" } : Jvm.MethodName)) ∈ lw_all := lw_g (lw_at lw_m3 112 rfl) rfl
theorem q700 : (Jvm.Cond.code ({ cls := "CircuitDesk$Net", name := "uses", desc := "(LCircuitDesk$Way;I)Z" } : Jvm.MethodName) prog_7_method_7_code (4 : Nat) (Option.some Jvm.ClassFile.FieldType.boolean)) ∈ lw_all := lw_g (lw_at lw_m3 113 rfl) rfl
theorem q701 : (Jvm.Cond.classLink "CircuitDesk$Net" (72 : Nat) "CircuitDesk$Link") ∈ lw_all := lw_g (lw_at lw_m3 114 rfl) rfl
theorem q702 : (Jvm.Cond.methodLink "CircuitDesk$Net" (120 : Nat) ({ cls := "CircuitDesk$Link", name := "joins", desc := "(II)Z" } : Jvm.MethodName)) ∈ lw_all := lw_g (lw_at lw_m3 115 rfl) rfl
theorem q703 : (Jvm.Cond.instanceMethod ({ cls := "CircuitDesk$Link", name := "joins", desc := "(II)Z" } : Jvm.MethodName)) ∈ lw_all := lw_g (lw_at lw_m3 116 rfl) rfl
theorem q704 : (Jvm.Cond.selects "CircuitDesk$Link" ({ cls := "CircuitDesk$Link", name := "joins", desc := "(II)Z" } : Jvm.MethodName) ({ cls := "CircuitDesk$Link", name := "joins", desc := "(II)Z" } : Jvm.MethodName)) ∈ lw_all := lw_g (lw_at lw_m3 117 rfl) rfl
theorem q705 : (Jvm.Cond.code ({ cls := "CircuitDesk$Link", name := "joins", desc := "(II)Z" } : Jvm.MethodName) prog_6_method_3_code (3 : Nat) (Option.some Jvm.ClassFile.FieldType.boolean)) ∈ lw_all := lw_g (lw_at lw_m3 118 rfl) rfl
theorem q706 : (Jvm.Cond.methodLink "CircuitDesk" (62 : Nat) ({ cls := "java/util/ArrayList", name := "get", desc := "(I)Ljava/lang/Object;" } : Jvm.MethodName)) ∈ lw_all := lw_g (lw_at lw_m3 119 rfl) rfl
theorem q707 : (Jvm.Cond.classLink "CircuitDesk" (71 : Nat) "CircuitDesk$Link") ∈ lw_all := lw_g (lw_at lw_m3 120 rfl) rfl
theorem q708 : (Jvm.Cond.methodLink "CircuitDeskLaw" (229 : Nat) ({ cls := "CircuitDesk", name := "weakLink", desc := "()I" } : Jvm.MethodName)) ∈ lw_all := lw_g (lw_at lw_m3 121 rfl) rfl
theorem q709 : (Jvm.Cond.instanceMethod ({ cls := "CircuitDesk", name := "weakLink", desc := "()I" } : Jvm.MethodName)) ∈ lw_all := lw_g (lw_at lw_m3 122 rfl) rfl
theorem q710 : (Jvm.Cond.selects "CircuitDesk" ({ cls := "CircuitDesk", name := "weakLink", desc := "()I" } : Jvm.MethodName) ({ cls := "CircuitDesk", name := "weakLink", desc := "()I" } : Jvm.MethodName)) ∈ lw_all := lw_g (lw_at lw_m3 123 rfl) rfl
theorem q711 : (Jvm.Cond.code ({ cls := "CircuitDesk", name := "weakLink", desc := "()I" } : Jvm.MethodName) prog_1_method_46_code (6 : Nat) (Option.some Jvm.ClassFile.FieldType.int)) ∈ lw_all := lw_g (lw_at lw_m3 124 rfl) rfl
theorem q712 : (Jvm.Cond.methodLink "CircuitDesk" (387 : Nat) ({ cls := "CircuitDesk", name := "cutsOff", desc := "(II)Z" } : Jvm.MethodName)) ∈ lw_all := lw_g (lw_at lw_m3 125 rfl) rfl
theorem q713 : (Jvm.Cond.privateMethod ({ cls := "CircuitDesk", name := "cutsOff", desc := "(II)Z" } : Jvm.MethodName)) ∈ lw_tbl := lw_at lw_m3 126 rfl
theorem q714 : (Jvm.Cond.instanceMethod ({ cls := "CircuitDesk", name := "cutsOff", desc := "(II)Z" } : Jvm.MethodName)) ∈ lw_all := lw_g (lw_at lw_m3 127 rfl) rfl
theorem q715 : (Jvm.Cond.code ({ cls := "CircuitDesk", name := "cutsOff", desc := "(II)Z" } : Jvm.MethodName) prog_1_method_45_code (4 : Nat) (Option.some Jvm.ClassFile.FieldType.boolean)) ∈ lw_all := lw_g (lw_at lw_m3 128 rfl) rfl
theorem q716 : (Jvm.Cond.classLink "CircuitDesk" (76 : Nat) "CircuitDesk$Circuit") ∈ lw_all := lw_g (lw_at lw_m3 129 rfl) rfl
theorem q717 : (Jvm.Cond.methodLink "CircuitDesk" (315 : Nat) ({ cls := "CircuitDesk$Circuit", name := "active", desc := "()LCircuitDesk$Way;" } : Jvm.MethodName)) ∈ lw_all := lw_g (lw_at lw_m3 130 rfl) rfl
theorem q718 : (Jvm.Cond.instanceMethod ({ cls := "CircuitDesk$Circuit", name := "active", desc := "()LCircuitDesk$Way;" } : Jvm.MethodName)) ∈ lw_all := lw_g (lw_at lw_m3 131 rfl) rfl
theorem q719 : (Jvm.Cond.selects "CircuitDesk$Circuit" ({ cls := "CircuitDesk$Circuit", name := "active", desc := "()LCircuitDesk$Way;" } : Jvm.MethodName) ({ cls := "CircuitDesk$Circuit", name := "active", desc := "()LCircuitDesk$Way;" } : Jvm.MethodName)) ∈ lw_all := lw_g (lw_at lw_m3 132 rfl) rfl
theorem q720 : (Jvm.Cond.code ({ cls := "CircuitDesk$Circuit", name := "active", desc := "()LCircuitDesk$Way;" } : Jvm.MethodName) prog_3_method_3_code (1 : Nat) (Option.some (Jvm.ClassFile.FieldType.object "CircuitDesk$Way"))) ∈ lw_all := lw_g (lw_at lw_m3 133 rfl) rfl
theorem q721 : (Jvm.Cond.methodLink "CircuitDesk" (383 : Nat) ({ cls := "CircuitDesk$Net", name := "uses", desc := "(LCircuitDesk$Way;I)Z" } : Jvm.MethodName)) ∈ lw_all := lw_g (lw_at lw_m3 134 rfl) rfl
theorem q722 : (Jvm.Cond.methodLink "CircuitDesk" (243 : Nat) ({ cls := "CircuitDesk$Way", name := "last", desc := "()I" } : Jvm.MethodName)) ∈ lw_all := lw_g (lw_at lw_m3 135 rfl) rfl
theorem q723 : (Jvm.Cond.instanceMethod ({ cls := "CircuitDesk$Way", name := "last", desc := "()I" } : Jvm.MethodName)) ∈ lw_all := lw_g (lw_at lw_m3 136 rfl) rfl
theorem q724 : (Jvm.Cond.selects "CircuitDesk$Way" ({ cls := "CircuitDesk$Way", name := "last", desc := "()I" } : Jvm.MethodName) ({ cls := "CircuitDesk$Way", name := "last", desc := "()I" } : Jvm.MethodName)) ∈ lw_all := lw_g (lw_at lw_m3 137 rfl) rfl
theorem q725 : (Jvm.Cond.code ({ cls := "CircuitDesk$Way", name := "last", desc := "()I" } : Jvm.MethodName) prog_15_method_7_code (1 : Nat) (Option.some Jvm.ClassFile.FieldType.int)) ∈ lw_all := lw_g (lw_at lw_m3 138 rfl) rfl
theorem q726 : (Jvm.Cond.methodLink "CircuitDesk" (253 : Nat) ({ cls := "CircuitDesk$Net", name := "best", desc := "(IIIII)LCircuitDesk$Way;" } : Jvm.MethodName)) ∈ lw_all := lw_g (lw_at lw_m3 139 rfl) rfl
theorem q727 : (Jvm.Cond.instanceMethod ({ cls := "CircuitDesk$Net", name := "best", desc := "(IIIII)LCircuitDesk$Way;" } : Jvm.MethodName)) ∈ lw_all := lw_g (lw_at lw_m3 140 rfl) rfl
theorem q728 : (Jvm.Cond.selects "CircuitDesk$Net" ({ cls := "CircuitDesk$Net", name := "best", desc := "(IIIII)LCircuitDesk$Way;" } : Jvm.MethodName) ({ cls := "CircuitDesk$Net", name := "best", desc := "(IIIII)LCircuitDesk$Way;" } : Jvm.MethodName)) ∈ lw_all := lw_g (lw_at lw_m3 141 rfl) rfl
theorem q729 : (Jvm.Cond.code ({ cls := "CircuitDesk$Net", name := "best", desc := "(IIIII)LCircuitDesk$Way;" } : Jvm.MethodName) prog_7_method_36_code (8 : Nat) (Option.some (Jvm.ClassFile.FieldType.object "CircuitDesk$Way"))) ∈ lw_all := lw_g (lw_at lw_m3 142 rfl) rfl
theorem q730 : (Jvm.Cond.classLink "CircuitDesk$Net" (363 : Nat) "CircuitDesk$Search") ∈ lw_all := lw_g (lw_at lw_m3 143 rfl) rfl
theorem q731 : (Jvm.Cond.instantiable "CircuitDesk$Search" (5 : Nat)) ∈ lw_all := lw_g (lw_at lw_m3 144 rfl) rfl
theorem q732 : (Jvm.Cond.methodLink "CircuitDesk$Net" (365 : Nat) ({ cls := "CircuitDesk$Search", name := "<init>", desc := "(LCircuitDesk$Net;IIII)V" } : Jvm.MethodName)) ∈ lw_all := lw_g (lw_at lw_m3 145 rfl) rfl
theorem q733 : (Jvm.Cond.instanceMethod ({ cls := "CircuitDesk$Search", name := "<init>", desc := "(LCircuitDesk$Net;IIII)V" } : Jvm.MethodName)) ∈ lw_all := lw_g (lw_at lw_m3 146 rfl) rfl
theorem q734 : (Jvm.Cond.code ({ cls := "CircuitDesk$Search", name := "<init>", desc := "(LCircuitDesk$Net;IIII)V" } : Jvm.MethodName) prog_13_method_1_code (7 : Nat) (Option.none : Option Jvm.ClassFile.FieldType)) ∈ lw_all := lw_g (lw_at lw_m3 147 rfl) rfl
theorem q735 : (Jvm.Cond.methodLink "CircuitDesk$Search" (3 : Nat) ({ cls := "java/lang/Object", name := "<init>", desc := "()V" } : Jvm.MethodName)) ∈ lw_all := lw_g (lw_at lw_m3 148 rfl) rfl
theorem q736 : (Jvm.Cond.methodLink "CircuitDesk$Search" (29 : Nat) ({ cls := "java/util/ArrayList", name := "size", desc := "()I" } : Jvm.MethodName)) ∈ lw_all := lw_g (lw_at lw_m3 149 rfl) rfl
theorem q737 : (Jvm.Cond.methodLink "CircuitDesk$Search" (35 : Nat) ({ cls := "CircuitDesk$Net", name := "hasRoom", desc := "(III)Z" } : Jvm.MethodName)) ∈ lw_all := lw_g (lw_at lw_m3 150 rfl) rfl
theorem q738 : (Jvm.Cond.instanceMethod ({ cls := "CircuitDesk$Net", name := "hasRoom", desc := "(III)Z" } : Jvm.MethodName)) ∈ lw_all := lw_g (lw_at lw_m3 151 rfl) rfl
theorem q739 : (Jvm.Cond.selects "CircuitDesk$Net" ({ cls := "CircuitDesk$Net", name := "hasRoom", desc := "(III)Z" } : Jvm.MethodName) ({ cls := "CircuitDesk$Net", name := "hasRoom", desc := "(III)Z" } : Jvm.MethodName)) ∈ lw_all := lw_g (lw_at lw_m3 152 rfl) rfl
theorem q740 : (Jvm.Cond.code ({ cls := "CircuitDesk$Net", name := "hasRoom", desc := "(III)Z" } : Jvm.MethodName) prog_7_method_9_code (5 : Nat) (Option.some Jvm.ClassFile.FieldType.boolean)) ∈ lw_all := lw_g (lw_at lw_m3 153 rfl) rfl
theorem q741 : (Jvm.Cond.methodLink "CircuitDesk$Net" (160 : Nat) ({ cls := "CircuitDesk$Net", name := "reserved", desc := "(II)I" } : Jvm.MethodName)) ∈ lw_all := lw_g (lw_at lw_m3 154 rfl) rfl
theorem q742 : (Jvm.Cond.fieldLink "CircuitDesk$Search" (15 : Nat) "CircuitDesk$Search" "net" "LCircuitDesk$Net;") ∈ lw_all := lw_g (lw_at lw_m3 155 rfl) rfl
theorem q743 : (Jvm.Cond.fieldLink "CircuitDesk$Search" (19 : Nat) "CircuitDesk$Search" "to" "I") ∈ lw_all := lw_g (lw_at lw_m3 156 rfl) rfl
theorem q744 : (Jvm.Cond.fieldLink "CircuitDesk$Search" (9 : Nat) "CircuitDesk$Search" "isFree" "[Z") ∈ lw_all := lw_g (lw_at lw_m3 157 rfl) rfl
theorem q745 : (Jvm.Cond.fieldLink "CircuitDesk$Search" (39 : Nat) "CircuitDesk$Search" "best" "LCircuitDesk$Way;") ∈ lw_all := lw_g (lw_at lw_m3 158 rfl) rfl
theorem q746 : (Jvm.Cond.fieldLinkNest "CircuitDesk$Net" (374 : Nat) "CircuitDesk$Search" "best" "LCircuitDesk$Way;" "CircuitDesk") ∈ lw_tbl := lw_at lw_m3 159 rfl
theorem q747 : (Jvm.Cond.fieldLink "CircuitDesk$Search" (43 : Nat) "CircuitDesk$Search" "least" "I") ∈ lw_all := lw_g (lw_at lw_m3 160 rfl) rfl
theorem q748 : (Jvm.Cond.laysFinal "CircuitDesk$Search" "CircuitDesk$Search" "net" "LCircuitDesk$Net;") ∈ lw_all := lw_g (lw_at lw_m3 161 rfl) rfl
theorem q749 : (Jvm.Cond.soleField "CircuitDesk$Search" "net") ∈ lw_all := lw_g (lw_at lw_m3 162 rfl) rfl
theorem q750 : (Jvm.Cond.laysFinal "CircuitDesk$Search" "CircuitDesk$Search" "to" "I") ∈ lw_all := lw_g (lw_at lw_m3 163 rfl) rfl
theorem q751 : (Jvm.Cond.soleField "CircuitDesk$Search" "to") ∈ lw_all := lw_g (lw_at lw_m3 164 rfl) rfl
theorem q752 : (Jvm.Cond.laysFinal "CircuitDesk$Search" "CircuitDesk$Search" "isFree" "[Z") ∈ lw_all := lw_g (lw_at lw_m3 165 rfl) rfl
theorem q753 : (Jvm.Cond.soleField "CircuitDesk$Search" "isFree") ∈ lw_all := lw_g (lw_at lw_m3 166 rfl) rfl
theorem q754 : (Jvm.Cond.lays "CircuitDesk$Search" "CircuitDesk$Search" "best" "LCircuitDesk$Way;") ∈ lw_all := lw_g (lw_at lw_m3 167 rfl) rfl
theorem q755 : (Jvm.Cond.soleField "CircuitDesk$Search" "best") ∈ lw_all := lw_g (lw_at lw_m3 168 rfl) rfl
theorem q756 : (Jvm.Cond.lays "CircuitDesk$Search" "CircuitDesk$Search" "least" "I") ∈ lw_all := lw_g (lw_at lw_m3 169 rfl) rfl
theorem q757 : (Jvm.Cond.soleField "CircuitDesk$Search" "least") ∈ lw_all := lw_g (lw_at lw_m3 170 rfl) rfl
theorem q758 : (Jvm.Cond.superclass "CircuitDesk$Search" "java/lang/Object") ∈ lw_all := lw_g (lw_at lw_m3 171 rfl) rfl
theorem q759 : (Jvm.Cond.arrayClass Jvm.ClassFile.FieldType.boolean) ∈ lw_all := lw_g (lw_at lw_m3 172 rfl) rfl
theorem q760 : (Jvm.Cond.classLink "CircuitDesk$Net" (135 : Nat) "CircuitDesk$Way") ∈ lw_all := lw_g (lw_at lw_m3 173 rfl) rfl
theorem q761 : (Jvm.Cond.methodLinkNest "CircuitDesk$Net" (368 : Nat) ({ cls := "CircuitDesk$Way", name := "<init>", desc := "()V" } : Jvm.MethodName) "CircuitDesk") ∈ lw_tbl := lw_at lw_m3 174 rfl
theorem q762 : (Jvm.Cond.methodLink "CircuitDesk$Net" (369 : Nat) ({ cls := "CircuitDesk$Way", name := "add", desc := "(I)V" } : Jvm.MethodName)) ∈ lw_all := lw_g (lw_at lw_m3 175 rfl) rfl
theorem q763 : (Jvm.Cond.instanceMethod ({ cls := "CircuitDesk$Way", name := "add", desc := "(I)V" } : Jvm.MethodName)) ∈ lw_all := lw_g (lw_at lw_m3 176 rfl) rfl
theorem q764 : (Jvm.Cond.selects "CircuitDesk$Way" ({ cls := "CircuitDesk$Way", name := "add", desc := "(I)V" } : Jvm.MethodName) ({ cls := "CircuitDesk$Way", name := "add", desc := "(I)V" } : Jvm.MethodName)) ∈ lw_all := lw_g (lw_at lw_m3 177 rfl) rfl
theorem q765 : (Jvm.Cond.code ({ cls := "CircuitDesk$Way", name := "add", desc := "(I)V" } : Jvm.MethodName) prog_15_method_3_code (2 : Nat) (Option.none : Option Jvm.ClassFile.FieldType)) ∈ lw_all := lw_g (lw_at lw_m3 178 rfl) rfl
theorem q766 : (Jvm.Cond.methodLink "CircuitDesk$Net" (371 : Nat) ({ cls := "CircuitDesk$Search", name := "go", desc := "(LCircuitDesk$Way;I)V" } : Jvm.MethodName)) ∈ lw_all := lw_g (lw_at lw_m3 179 rfl) rfl
theorem q767 : (Jvm.Cond.instanceMethod ({ cls := "CircuitDesk$Search", name := "go", desc := "(LCircuitDesk$Way;I)V" } : Jvm.MethodName)) ∈ lw_all := lw_g (lw_at lw_m3 180 rfl) rfl
theorem q768 : (Jvm.Cond.selects "CircuitDesk$Search" ({ cls := "CircuitDesk$Search", name := "go", desc := "(LCircuitDesk$Way;I)V" } : Jvm.MethodName) ({ cls := "CircuitDesk$Search", name := "go", desc := "(LCircuitDesk$Way;I)V" } : Jvm.MethodName)) ∈ lw_all := lw_g (lw_at lw_m3 181 rfl) rfl
theorem q769 : (Jvm.Cond.code ({ cls := "CircuitDesk$Search", name := "go", desc := "(LCircuitDesk$Way;I)V" } : Jvm.MethodName) prog_13_method_3_code (5 : Nat) (Option.none : Option Jvm.ClassFile.FieldType)) ∈ lw_all := lw_g (lw_at lw_m3 182 rfl) rfl
theorem q770 : (Jvm.Cond.methodLink "CircuitDesk$Search" (50 : Nat) ({ cls := "CircuitDesk$Way", name := "last", desc := "()I" } : Jvm.MethodName)) ∈ lw_all := lw_g (lw_at lw_m3 183 rfl) rfl
theorem q771 : (Jvm.Cond.methodLink "CircuitDesk$Search" (53 : Nat) ({ cls := "CircuitDesk$Search", name := "isBetter", desc := "(LCircuitDesk$Way;I)Z" } : Jvm.MethodName)) ∈ lw_all := lw_g (lw_at lw_m3 184 rfl) rfl
theorem q772 : (Jvm.Cond.privateMethod ({ cls := "CircuitDesk$Search", name := "isBetter", desc := "(LCircuitDesk$Way;I)Z" } : Jvm.MethodName)) ∈ lw_tbl := lw_at lw_m3 185 rfl
theorem q773 : (Jvm.Cond.instanceMethod ({ cls := "CircuitDesk$Search", name := "isBetter", desc := "(LCircuitDesk$Way;I)Z" } : Jvm.MethodName)) ∈ lw_all := lw_g (lw_at lw_m3 186 rfl) rfl
theorem q774 : (Jvm.Cond.code ({ cls := "CircuitDesk$Search", name := "isBetter", desc := "(LCircuitDesk$Way;I)Z" } : Jvm.MethodName) prog_13_method_2_code (3 : Nat) (Option.some Jvm.ClassFile.FieldType.boolean)) ∈ lw_all := lw_g (lw_at lw_m3 187 rfl) rfl
theorem q775 : (Jvm.Cond.methodLink "CircuitDesk$Search" (57 : Nat) ({ cls := "CircuitDesk$Way", name := "copy", desc := "()LCircuitDesk$Way;" } : Jvm.MethodName)) ∈ lw_all := lw_g (lw_at lw_m3 188 rfl) rfl
theorem q776 : (Jvm.Cond.instanceMethod ({ cls := "CircuitDesk$Way", name := "copy", desc := "()LCircuitDesk$Way;" } : Jvm.MethodName)) ∈ lw_all := lw_g (lw_at lw_m3 189 rfl) rfl
theorem q777 : (Jvm.Cond.selects "CircuitDesk$Way" ({ cls := "CircuitDesk$Way", name := "copy", desc := "()LCircuitDesk$Way;" } : Jvm.MethodName) ({ cls := "CircuitDesk$Way", name := "copy", desc := "()LCircuitDesk$Way;" } : Jvm.MethodName)) ∈ lw_all := lw_g (lw_at lw_m3 190 rfl) rfl
theorem q778 : (Jvm.Cond.code ({ cls := "CircuitDesk$Way", name := "copy", desc := "()LCircuitDesk$Way;" } : Jvm.MethodName) prog_15_method_2_code (2 : Nat) (Option.some (Jvm.ClassFile.FieldType.object "CircuitDesk$Way"))) ∈ lw_all := lw_g (lw_at lw_m3 191 rfl) rfl
theorem q779 : (Jvm.Cond.classLink "CircuitDesk$Way" (10 : Nat) "CircuitDesk$Way") ∈ lw_all := lw_g (lw_at lw_m3 192 rfl) rfl
theorem q780 : (Jvm.Cond.methodLink "CircuitDesk$Way" (21 : Nat) ({ cls := "CircuitDesk$Way", name := "<init>", desc := "()V" } : Jvm.MethodName)) ∈ lw_all := lw_g (lw_at lw_m3 193 rfl) rfl
theorem q781 : (Jvm.Cond.methodLink "CircuitDesk$Way" (22 : Nat) ({ cls := "[I", name := "clone", desc := "()Ljava/lang/Object;" } : Jvm.MethodName)) ∈ lw_all := lw_g (lw_at lw_m3 194 rfl) rfl
theorem q782 : (Jvm.Cond.sameMethod "[I" "java/lang/Object" "clone" "()Ljava/lang/Object;") ∈ lw_all := lw_g (lw_at lw_m3 195 rfl) rfl
theorem q783 : (Jvm.Cond.selects "[I" ({ cls := "[I", name := "clone", desc := "()Ljava/lang/Object;" } : Jvm.MethodName) ({ cls := "java/lang/Object", name := "clone", desc := "()Ljava/lang/Object;" } : Jvm.MethodName)) ∈ lw_all := lw_g (lw_at lw_m3 196 rfl) rfl
theorem q784 : (Jvm.Cond.castable "[I" "java/lang/Cloneable") ∈ lw_tbl := lw_at lw_m3 197 rfl
theorem q785 : (Jvm.Cond.classLink "CircuitDesk$Way" (23 : Nat) "[I") ∈ lw_all := lw_g (lw_at lw_m3 198 rfl) rfl
theorem q786 : (Jvm.Cond.methodLink "CircuitDesk$Search" (64 : Nat) ({ cls := "CircuitDesk$Way", name := "has", desc := "(I)Z" } : Jvm.MethodName)) ∈ lw_all := lw_g (lw_at lw_m3 199 rfl) rfl
theorem q787 : (Jvm.Cond.instanceMethod ({ cls := "CircuitDesk$Way", name := "has", desc := "(I)Z" } : Jvm.MethodName)) ∈ lw_all := lw_g (lw_at lw_m3 200 rfl) rfl
theorem q788 : (Jvm.Cond.selects "CircuitDesk$Way" ({ cls := "CircuitDesk$Way", name := "has", desc := "(I)Z" } : Jvm.MethodName) ({ cls := "CircuitDesk$Way", name := "has", desc := "(I)Z" } : Jvm.MethodName)) ∈ lw_all := lw_g (lw_at lw_m3 201 rfl) rfl
theorem q789 : (Jvm.Cond.code ({ cls := "CircuitDesk$Way", name := "has", desc := "(I)Z" } : Jvm.MethodName) prog_15_method_5_code (2 : Nat) (Option.some Jvm.ClassFile.FieldType.boolean)) ∈ lw_all := lw_g (lw_at lw_m3 202 rfl) rfl
theorem q790 : (Jvm.Cond.methodLink "CircuitDesk$Way" (31 : Nat) ({ cls := "CircuitDesk$Way", name := "indexOf", desc := "(I)I" } : Jvm.MethodName)) ∈ lw_all := lw_g (lw_at lw_m3 203 rfl) rfl
theorem q791 : (Jvm.Cond.instanceMethod ({ cls := "CircuitDesk$Way", name := "indexOf", desc := "(I)I" } : Jvm.MethodName)) ∈ lw_all := lw_g (lw_at lw_m3 204 rfl) rfl
theorem q792 : (Jvm.Cond.selects "CircuitDesk$Way" ({ cls := "CircuitDesk$Way", name := "indexOf", desc := "(I)I" } : Jvm.MethodName) ({ cls := "CircuitDesk$Way", name := "indexOf", desc := "(I)I" } : Jvm.MethodName)) ∈ lw_all := lw_g (lw_at lw_m3 205 rfl) rfl
theorem q793 : (Jvm.Cond.code ({ cls := "CircuitDesk$Way", name := "indexOf", desc := "(I)I" } : Jvm.MethodName) prog_15_method_4_code (3 : Nat) (Option.some Jvm.ClassFile.FieldType.int)) ∈ lw_all := lw_g (lw_at lw_m3 206 rfl) rfl
theorem q794 : (Jvm.Cond.methodLink "CircuitDesk$Search" (68 : Nat) ({ cls := "CircuitDesk$Net", name := "linkOf", desc := "(II)I" } : Jvm.MethodName)) ∈ lw_all := lw_g (lw_at lw_m3 207 rfl) rfl
theorem q795 : (Jvm.Cond.instanceMethod ({ cls := "CircuitDesk$Net", name := "linkOf", desc := "(II)I" } : Jvm.MethodName)) ∈ lw_all := lw_g (lw_at lw_m3 208 rfl) rfl
theorem q796 : (Jvm.Cond.selects "CircuitDesk$Net" ({ cls := "CircuitDesk$Net", name := "linkOf", desc := "(II)I" } : Jvm.MethodName) ({ cls := "CircuitDesk$Net", name := "linkOf", desc := "(II)I" } : Jvm.MethodName)) ∈ lw_all := lw_g (lw_at lw_m3 209 rfl) rfl
theorem q797 : (Jvm.Cond.code ({ cls := "CircuitDesk$Net", name := "linkOf", desc := "(II)I" } : Jvm.MethodName) prog_7_method_3_code (4 : Nat) (Option.some Jvm.ClassFile.FieldType.int)) ∈ lw_all := lw_g (lw_at lw_m3 210 rfl) rfl
theorem q798 : (Jvm.Cond.methodLink "CircuitDesk$Search" (72 : Nat) ({ cls := "CircuitDesk$Way", name := "add", desc := "(I)V" } : Jvm.MethodName)) ∈ lw_all := lw_g (lw_at lw_m3 211 rfl) rfl
theorem q799 : (Jvm.Cond.methodLink "CircuitDesk$Search" (76 : Nat) ({ cls := "java/util/ArrayList", name := "get", desc := "(I)Ljava/lang/Object;" } : Jvm.MethodName)) ∈ lw_all := lw_g (lw_at lw_m3 212 rfl) rfl
theorem q800 : (Jvm.Cond.classLink "CircuitDesk$Search" (80 : Nat) "CircuitDesk$Link") ∈ lw_all := lw_g (lw_at lw_m3 213 rfl) rfl
theorem q801 : (Jvm.Cond.methodLink "CircuitDesk$Search" (85 : Nat) ({ cls := "CircuitDesk$Search", name := "go", desc := "(LCircuitDesk$Way;I)V" } : Jvm.MethodName)) ∈ lw_all := lw_g (lw_at lw_m3 214 rfl) rfl
theorem q802 : (Jvm.Cond.methodLink "CircuitDesk" (390 : Nat) ({ cls := "java/lang/Math", name := "max", desc := "(II)I" } : Jvm.MethodName)) ∈ lw_all := lw_g (lw_at lw_m3 215 rfl) rfl
theorem q803 : (Jvm.Cond.methodLink "CircuitDeskLaw" (127 : Nat) ({ cls := "CircuitDesk", name := "load", desc := "()I" } : Jvm.MethodName)) ∈ lw_all := lw_g (lw_at lw_m3 216 rfl) rfl
theorem q804 : (Jvm.Cond.instanceMethod ({ cls := "CircuitDesk", name := "load", desc := "()I" } : Jvm.MethodName)) ∈ lw_all := lw_g (lw_at lw_m3 217 rfl) rfl
theorem q805 : (Jvm.Cond.selects "CircuitDesk" ({ cls := "CircuitDesk", name := "load", desc := "()I" } : Jvm.MethodName) ({ cls := "CircuitDesk", name := "load", desc := "()I" } : Jvm.MethodName)) ∈ lw_all := lw_g (lw_at lw_m3 218 rfl) rfl
theorem q806 : (Jvm.Cond.codeWith ({ cls := "CircuitDesk", name := "load", desc := "()I" } : Jvm.MethodName) prog_1_method_49_code (3 : Nat) (Option.some Jvm.ClassFile.FieldType.int) [((28 : Nat), (57 : Nat), (58 : Nat), (409 : Nat))]) ∈ lw_all := lw_g (lw_at lw_m3 219 rfl) rfl
theorem q807 : (Jvm.Cond.classLink "CircuitDesk" (409 : Nat) "CircuitDesk$TextError") ∈ lw_all := lw_g (lw_at lw_m3 220 rfl) rfl
theorem q808 : (Jvm.Cond.classLink "CircuitDesk" (398 : Nat) "CircuitDesk$Parser") ∈ lw_all := lw_g (lw_at lw_m3 221 rfl) rfl
theorem q809 : (Jvm.Cond.instantiable "CircuitDesk$Parser" (8 : Nat)) ∈ lw_all := lw_g (lw_at lw_m3 222 rfl) rfl
theorem q810 : (Jvm.Cond.methodLink "CircuitDesk" (400 : Nat) ({ cls := "CircuitDesk$Parser", name := "<init>", desc := "(LCircuitDesk;I)V" } : Jvm.MethodName)) ∈ lw_all := lw_g (lw_at lw_m3 223 rfl) rfl
theorem q811 : (Jvm.Cond.instanceMethod ({ cls := "CircuitDesk$Parser", name := "<init>", desc := "(LCircuitDesk;I)V" } : Jvm.MethodName)) ∈ lw_all := lw_g (lw_at lw_m3 224 rfl) rfl
theorem q812 : (Jvm.Cond.code ({ cls := "CircuitDesk$Parser", name := "<init>", desc := "(LCircuitDesk;I)V" } : Jvm.MethodName) prog_10_method_1_code (3 : Nat) (Option.none : Option Jvm.ClassFile.FieldType)) ∈ lw_all := lw_g (lw_at lw_m3 225 rfl) rfl
theorem q813 : (Jvm.Cond.methodLink "CircuitDesk$Parser" (9 : Nat) ({ cls := "java/lang/Object", name := "<init>", desc := "()V" } : Jvm.MethodName)) ∈ lw_all := lw_g (lw_at lw_m3 226 rfl) rfl
theorem q814 : (Jvm.Cond.classLink "CircuitDesk$Parser" (15 : Nat) "CircuitDesk$Net") ∈ lw_all := lw_g (lw_at lw_m3 227 rfl) rfl
theorem q815 : (Jvm.Cond.methodLinkNest "CircuitDesk$Parser" (17 : Nat) ({ cls := "CircuitDesk$Net", name := "<init>", desc := "()V" } : Jvm.MethodName) "CircuitDesk") ∈ lw_tbl := lw_at lw_m3 228 rfl
theorem q816 : (Jvm.Cond.stringRef "CircuitDesk$Parser" (22 : Nat) "") ∈ lw_tbl := lw_at lw_m3 229 rfl
theorem q817 : (Jvm.Cond.methodLink "CircuitDesk$Parser" (32 : Nat) ({ cls := "CircuitDesk$Parser", name := "advance", desc := "()V" } : Jvm.MethodName)) ∈ lw_all := lw_g (lw_at lw_m3 230 rfl) rfl
theorem q818 : (Jvm.Cond.privateMethod ({ cls := "CircuitDesk$Parser", name := "advance", desc := "()V" } : Jvm.MethodName)) ∈ lw_tbl := lw_at lw_m3 231 rfl
theorem q819 : (Jvm.Cond.instanceMethod ({ cls := "CircuitDesk$Parser", name := "advance", desc := "()V" } : Jvm.MethodName)) ∈ lw_all := lw_g (lw_at lw_m3 232 rfl) rfl
theorem q820 : (Jvm.Cond.code ({ cls := "CircuitDesk$Parser", name := "advance", desc := "()V" } : Jvm.MethodName) prog_10_method_3_code (3 : Nat) (Option.none : Option Jvm.ClassFile.FieldType)) ∈ lw_all := lw_g (lw_at lw_m3 233 rfl) rfl
theorem q821 : (Jvm.Cond.methodLink "CircuitDesk$Parser" (42 : Nat) ({ cls := "CircuitDesk$Parser", name := "byteAt", desc := "(I)I" } : Jvm.MethodName)) ∈ lw_all := lw_g (lw_at lw_m3 234 rfl) rfl
theorem q822 : (Jvm.Cond.privateMethod ({ cls := "CircuitDesk$Parser", name := "byteAt", desc := "(I)I" } : Jvm.MethodName)) ∈ lw_tbl := lw_at lw_m3 235 rfl
theorem q823 : (Jvm.Cond.instanceMethod ({ cls := "CircuitDesk$Parser", name := "byteAt", desc := "(I)I" } : Jvm.MethodName)) ∈ lw_all := lw_g (lw_at lw_m3 236 rfl) rfl
theorem q824 : (Jvm.Cond.code ({ cls := "CircuitDesk$Parser", name := "byteAt", desc := "(I)I" } : Jvm.MethodName) prog_10_method_2_code (2 : Nat) (Option.some Jvm.ClassFile.FieldType.int)) ∈ lw_all := lw_g (lw_at lw_m3 237 rfl) rfl
theorem q825 : (Jvm.Cond.constantLong "CircuitDesk$Parser" (52 : Nat) (48 : Int64)) ∈ lw_all := lw_g (lw_at lw_m3 238 rfl) rfl
theorem q826 : (Jvm.Cond.constantLong "CircuitDesk$Parser" (54 : Nat) (57 : Int64)) ∈ lw_all := lw_g (lw_at lw_m3 239 rfl) rfl
theorem q827 : (Jvm.Cond.methodLinkNest "CircuitDesk$Parser" (56 : Nat) ({ cls := "CircuitDesk", name := "isBetween", desc := "(JJJ)Z" } : Jvm.MethodName) "CircuitDesk") ∈ lw_tbl := lw_at lw_m4 0 rfl
theorem q828 : (Jvm.Cond.static ({ cls := "CircuitDesk", name := "isBetween", desc := "(JJJ)Z" } : Jvm.MethodName)) ∈ lw_all := lw_g (lw_at lw_m4 1 rfl) rfl
theorem q829 : (Jvm.Cond.code ({ cls := "CircuitDesk", name := "isBetween", desc := "(JJJ)Z" } : Jvm.MethodName) prog_1_method_1_code (6 : Nat) (Option.some Jvm.ClassFile.FieldType.boolean)) ∈ lw_all := lw_g (lw_at lw_m4 2 rfl) rfl
theorem q830 : (Jvm.Cond.constantLong "CircuitDesk$Parser" (64 : Nat) (97 : Int64)) ∈ lw_all := lw_g (lw_at lw_m4 3 rfl) rfl
theorem q831 : (Jvm.Cond.constantLong "CircuitDesk$Parser" (66 : Nat) (122 : Int64)) ∈ lw_all := lw_g (lw_at lw_m4 4 rfl) rfl
theorem q832 : (Jvm.Cond.classLink "CircuitDesk$Parser" (68 : Nat) "java/lang/StringBuilder") ∈ lw_all := lw_g (lw_at lw_m4 5 rfl) rfl
theorem q833 : (Jvm.Cond.methodLink "CircuitDesk$Parser" (70 : Nat) ({ cls := "java/lang/StringBuilder", name := "<init>", desc := "()V" } : Jvm.MethodName)) ∈ lw_all := lw_g (lw_at lw_m4 6 rfl) rfl
theorem q834 : (Jvm.Cond.constant "CircuitDesk$Parser" (71 : Nat) (100000 : Int32)) ∈ lw_all := lw_g (lw_at lw_m4 7 rfl) rfl
theorem q835 : (Jvm.Cond.methodLink "CircuitDesk$Parser" (72 : Nat) ({ cls := "java/lang/Math", name := "min", desc := "(II)I" } : Jvm.MethodName)) ∈ lw_all := lw_g (lw_at lw_m4 8 rfl) rfl
theorem q836 : (Jvm.Cond.methodLink "CircuitDesk$Parser" (78 : Nat) ({ cls := "java/lang/StringBuilder", name := "append", desc := "(C)Ljava/lang/StringBuilder;" } : Jvm.MethodName)) ∈ lw_all := lw_g (lw_at lw_m4 9 rfl) rfl
theorem q837 : (Jvm.Cond.instanceMethod ({ cls := "java/lang/StringBuilder", name := "append", desc := "(C)Ljava/lang/StringBuilder;" } : Jvm.MethodName)) ∈ lw_all := lw_g (lw_at lw_m4 10 rfl) rfl
theorem q838 : (Jvm.Cond.selects "java/lang/StringBuilder" ({ cls := "java/lang/StringBuilder", name := "append", desc := "(C)Ljava/lang/StringBuilder;" } : Jvm.MethodName) ({ cls := "java/lang/StringBuilder", name := "append", desc := "(C)Ljava/lang/StringBuilder;" } : Jvm.MethodName)) ∈ lw_all := lw_g (lw_at lw_m4 11 rfl) rfl
theorem q839 : (Jvm.Cond.code ({ cls := "java/lang/StringBuilder", name := "append", desc := "(C)Ljava/lang/StringBuilder;" } : Jvm.MethodName) prog_35_method_14_code (2 : Nat) (Option.some (Jvm.ClassFile.FieldType.object "java/lang/StringBuilder"))) ∈ lw_all := lw_g (lw_at lw_m4 12 rfl) rfl
theorem q840 : (Jvm.Cond.methodLink "java/lang/StringBuilder" (50 : Nat) ({ cls := "java/lang/AbstractStringBuilder", name := "append", desc := "(C)Ljava/lang/AbstractStringBuilder;" } : Jvm.MethodName)) ∈ lw_all := lw_g (lw_at lw_m4 13 rfl) rfl
theorem q841 : (Jvm.Cond.instanceMethod ({ cls := "java/lang/AbstractStringBuilder", name := "append", desc := "(C)Ljava/lang/AbstractStringBuilder;" } : Jvm.MethodName)) ∈ lw_all := lw_g (lw_at lw_m4 14 rfl) rfl
theorem q842 : (Jvm.Cond.code ({ cls := "java/lang/AbstractStringBuilder", name := "append", desc := "(C)Ljava/lang/AbstractStringBuilder;" } : Jvm.MethodName) prog_19_method_31_code (2 : Nat) (Option.some (Jvm.ClassFile.FieldType.object "java/lang/AbstractStringBuilder"))) ∈ lw_all := lw_g (lw_at lw_m4 15 rfl) rfl
theorem q843 : (Jvm.Cond.methodLink "java/lang/AbstractStringBuilder" (191 : Nat) ({ cls := "java/lang/StringLatin1", name := "canEncode", desc := "(C)Z" } : Jvm.MethodName)) ∈ lw_all := lw_g (lw_at lw_m4 16 rfl) rfl
theorem q844 : (Jvm.Cond.static ({ cls := "java/lang/StringLatin1", name := "canEncode", desc := "(C)Z" } : Jvm.MethodName)) ∈ lw_all := lw_g (lw_at lw_m4 17 rfl) rfl
theorem q845 : (Jvm.Cond.code ({ cls := "java/lang/StringLatin1", name := "canEncode", desc := "(C)Z" } : Jvm.MethodName) prog_36_method_3_code (1 : Nat) (Option.some Jvm.ClassFile.FieldType.boolean)) ∈ lw_all := lw_g (lw_at lw_m4 18 rfl) rfl
theorem q846 : (Jvm.Cond.methodLink "java/lang/AbstractStringBuilder" (197 : Nat) ({ cls := "java/lang/StringUTF16", name := "putCharSB", desc := "([BII)V" } : Jvm.MethodName)) ∈ lw_all := lw_g (lw_at lw_m4 19 rfl) rfl
theorem q847 : (Jvm.Cond.static ({ cls := "java/lang/StringUTF16", name := "putCharSB", desc := "([BII)V" } : Jvm.MethodName)) ∈ lw_all := lw_g (lw_at lw_m4 20 rfl) rfl
theorem q848 : (Jvm.Cond.code ({ cls := "java/lang/StringUTF16", name := "putCharSB", desc := "([BII)V" } : Jvm.MethodName) prog_37_method_71_code (3 : Nat) (Option.none : Option Jvm.ClassFile.FieldType)) ∈ lw_all := lw_g (lw_at lw_m4 21 rfl) rfl
theorem q849 : (Jvm.Cond.methodLink "java/lang/StringUTF16" (67 : Nat) ({ cls := "java/lang/StringUTF16", name := "checkIndex", desc := "(I[B)V" } : Jvm.MethodName)) ∈ lw_all := lw_g (lw_at lw_m4 22 rfl) rfl
theorem q850 : (Jvm.Cond.static ({ cls := "java/lang/StringUTF16", name := "checkIndex", desc := "(I[B)V" } : Jvm.MethodName)) ∈ lw_all := lw_g (lw_at lw_m4 23 rfl) rfl
theorem q851 : (Jvm.Cond.code ({ cls := "java/lang/StringUTF16", name := "checkIndex", desc := "(I[B)V" } : Jvm.MethodName) prog_37_method_91_code (2 : Nat) (Option.none : Option Jvm.ClassFile.FieldType)) ∈ lw_all := lw_g (lw_at lw_m4 24 rfl) rfl
theorem q852 : (Jvm.Cond.methodLink "java/lang/StringUTF16" (414 : Nat) ({ cls := "java/lang/String", name := "checkIndex", desc := "(II)V" } : Jvm.MethodName)) ∈ lw_all := lw_g (lw_at lw_m4 25 rfl) rfl
theorem q853 : (Jvm.Cond.static ({ cls := "java/lang/String", name := "checkIndex", desc := "(II)V" } : Jvm.MethodName)) ∈ lw_all := lw_g (lw_at lw_m4 26 rfl) rfl
theorem q854 : (Jvm.Cond.code ({ cls := "java/lang/String", name := "checkIndex", desc := "(II)V" } : Jvm.MethodName) prog_34_method_155_code (2 : Nat) (Option.none : Option Jvm.ClassFile.FieldType)) ∈ lw_all := lw_g (lw_at lw_m4 27 rfl) rfl
theorem q855 : (Jvm.Cond.methodLink "java/lang/String" (1059 : Nat) ({ cls := "jdk/internal/util/Preconditions", name := "checkIndex", desc := "(IILjava/util/function/BiFunction;)I" } : Jvm.MethodName)) ∈ lw_all := lw_g (lw_at lw_m4 28 rfl) rfl
theorem q856 : (Jvm.Cond.methodLink "CircuitDesk$Parser" (82 : Nat) ({ cls := "java/lang/StringBuilder", name := "toString", desc := "()Ljava/lang/String;" } : Jvm.MethodName)) ∈ lw_all := lw_g (lw_at lw_m4 29 rfl) rfl
theorem q857 : (Jvm.Cond.fieldLink "CircuitDesk$Parser" (28 : Nat) "CircuitDesk$Parser" "length" "I") ∈ lw_all := lw_g (lw_at lw_m4 30 rfl) rfl
theorem q858 : (Jvm.Cond.fieldLink "CircuitDesk$Parser" (18 : Nat) "CircuitDesk$Parser" "made" "LCircuitDesk$Net;") ∈ lw_all := lw_g (lw_at lw_m4 31 rfl) rfl
theorem q859 : (Jvm.Cond.fieldLink "CircuitDesk$Parser" (39 : Nat) "CircuitDesk$Parser" "next" "I") ∈ lw_all := lw_g (lw_at lw_m4 32 rfl) rfl
theorem q860 : (Jvm.Cond.fieldLink "CircuitDesk$Parser" (46 : Nat) "CircuitDesk$Parser" "begin" "I") ∈ lw_all := lw_g (lw_at lw_m4 33 rfl) rfl
theorem q861 : (Jvm.Cond.fieldLink "CircuitDesk$Parser" (60 : Nat) "CircuitDesk$Parser" "isNumber" "Z") ∈ lw_all := lw_g (lw_at lw_m4 34 rfl) rfl
theorem q862 : (Jvm.Cond.fieldLink "CircuitDesk$Parser" (49 : Nat) "CircuitDesk$Parser" "number" "I") ∈ lw_all := lw_g (lw_at lw_m4 35 rfl) rfl
theorem q863 : (Jvm.Cond.fieldLink "CircuitDesk$Parser" (24 : Nat) "CircuitDesk$Parser" "token" "Ljava/lang/String;") ∈ lw_all := lw_g (lw_at lw_m4 36 rfl) rfl
theorem q864 : (Jvm.Cond.fieldLink "CircuitDesk$Parser" (3 : Nat) "CircuitDesk$Parser" "this$0" "LCircuitDesk;") ∈ lw_all := lw_g (lw_at lw_m4 37 rfl) rfl
theorem q865 : (Jvm.Cond.laysFinal "CircuitDesk$Parser" "CircuitDesk$Parser" "length" "I") ∈ lw_all := lw_g (lw_at lw_m4 38 rfl) rfl
theorem q866 : (Jvm.Cond.soleField "CircuitDesk$Parser" "length") ∈ lw_all := lw_g (lw_at lw_m4 39 rfl) rfl
theorem q867 : (Jvm.Cond.laysFinal "CircuitDesk$Parser" "CircuitDesk$Parser" "made" "LCircuitDesk$Net;") ∈ lw_all := lw_g (lw_at lw_m4 40 rfl) rfl
theorem q868 : (Jvm.Cond.soleField "CircuitDesk$Parser" "made") ∈ lw_all := lw_g (lw_at lw_m4 41 rfl) rfl
theorem q869 : (Jvm.Cond.lays "CircuitDesk$Parser" "CircuitDesk$Parser" "next" "I") ∈ lw_all := lw_g (lw_at lw_m4 42 rfl) rfl
theorem q870 : (Jvm.Cond.soleField "CircuitDesk$Parser" "next") ∈ lw_all := lw_g (lw_at lw_m4 43 rfl) rfl
theorem q871 : (Jvm.Cond.lays "CircuitDesk$Parser" "CircuitDesk$Parser" "begin" "I") ∈ lw_all := lw_g (lw_at lw_m4 44 rfl) rfl
theorem q872 : (Jvm.Cond.soleField "CircuitDesk$Parser" "begin") ∈ lw_all := lw_g (lw_at lw_m4 45 rfl) rfl
theorem q873 : (Jvm.Cond.lays "CircuitDesk$Parser" "CircuitDesk$Parser" "isNumber" "Z") ∈ lw_all := lw_g (lw_at lw_m4 46 rfl) rfl
theorem q874 : (Jvm.Cond.soleField "CircuitDesk$Parser" "isNumber") ∈ lw_all := lw_g (lw_at lw_m4 47 rfl) rfl
theorem q875 : (Jvm.Cond.lays "CircuitDesk$Parser" "CircuitDesk$Parser" "number" "I") ∈ lw_all := lw_g (lw_at lw_m4 48 rfl) rfl
theorem q876 : (Jvm.Cond.soleField "CircuitDesk$Parser" "number") ∈ lw_all := lw_g (lw_at lw_m4 49 rfl) rfl
theorem q877 : (Jvm.Cond.lays "CircuitDesk$Parser" "CircuitDesk$Parser" "token" "Ljava/lang/String;") ∈ lw_all := lw_g (lw_at lw_m4 50 rfl) rfl
theorem q878 : (Jvm.Cond.soleField "CircuitDesk$Parser" "token") ∈ lw_all := lw_g (lw_at lw_m4 51 rfl) rfl
theorem q879 : (Jvm.Cond.laysFinal "CircuitDesk$Parser" "CircuitDesk$Parser" "this$0" "LCircuitDesk;") ∈ lw_all := lw_g (lw_at lw_m4 52 rfl) rfl
theorem q880 : (Jvm.Cond.soleField "CircuitDesk$Parser" "this$0") ∈ lw_all := lw_g (lw_at lw_m4 53 rfl) rfl
theorem q881 : (Jvm.Cond.superclass "CircuitDesk$Parser" "java/lang/Object") ∈ lw_all := lw_g (lw_at lw_m4 54 rfl) rfl
theorem q882 : (Jvm.Cond.methodLink "CircuitDesk" (406 : Nat) ({ cls := "CircuitDesk$Parser", name := "setup", desc := "()LCircuitDesk$Net;" } : Jvm.MethodName)) ∈ lw_all := lw_g (lw_at lw_m4 55 rfl) rfl
theorem q883 : (Jvm.Cond.instanceMethod ({ cls := "CircuitDesk$Parser", name := "setup", desc := "()LCircuitDesk$Net;" } : Jvm.MethodName)) ∈ lw_all := lw_g (lw_at lw_m4 56 rfl) rfl
theorem q884 : (Jvm.Cond.selects "CircuitDesk$Parser" ({ cls := "CircuitDesk$Parser", name := "setup", desc := "()LCircuitDesk$Net;" } : Jvm.MethodName) ({ cls := "CircuitDesk$Parser", name := "setup", desc := "()LCircuitDesk$Net;" } : Jvm.MethodName)) ∈ lw_all := lw_g (lw_at lw_m4 57 rfl) rfl
theorem q885 : (Jvm.Cond.code ({ cls := "CircuitDesk$Parser", name := "setup", desc := "()LCircuitDesk$Net;" } : Jvm.MethodName) prog_10_method_7_code (1 : Nat) (Option.some (Jvm.ClassFile.FieldType.object "CircuitDesk$Net"))) ∈ lw_all := lw_g (lw_at lw_m4 58 rfl) rfl
theorem q886 : (Jvm.Cond.methodLink "CircuitDesk$Parser" (98 : Nat) ({ cls := "CircuitDesk$Parser", name := "statement", desc := "()V" } : Jvm.MethodName)) ∈ lw_all := lw_g (lw_at lw_m4 59 rfl) rfl
theorem q887 : (Jvm.Cond.privateMethod ({ cls := "CircuitDesk$Parser", name := "statement", desc := "()V" } : Jvm.MethodName)) ∈ lw_tbl := lw_at lw_m4 60 rfl
theorem q888 : (Jvm.Cond.instanceMethod ({ cls := "CircuitDesk$Parser", name := "statement", desc := "()V" } : Jvm.MethodName)) ∈ lw_all := lw_g (lw_at lw_m4 61 rfl) rfl
theorem q889 : (Jvm.Cond.code ({ cls := "CircuitDesk$Parser", name := "statement", desc := "()V" } : Jvm.MethodName) prog_10_method_8_code (4 : Nat) (Option.none : Option Jvm.ClassFile.FieldType)) ∈ lw_all := lw_g (lw_at lw_m4 62 rfl) rfl
theorem q890 : (Jvm.Cond.methodLink "CircuitDesk$Parser" (109 : Nat) ({ cls := "java/lang/String", name := "hashCode", desc := "()I" } : Jvm.MethodName)) ∈ lw_all := lw_g (lw_at lw_m4 63 rfl) rfl
theorem q891 : (Jvm.Cond.instanceMethod ({ cls := "java/lang/String", name := "hashCode", desc := "()I" } : Jvm.MethodName)) ∈ lw_all := lw_g (lw_at lw_m4 64 rfl) rfl
theorem q892 : (Jvm.Cond.selects "java/lang/String" ({ cls := "java/lang/String", name := "hashCode", desc := "()I" } : Jvm.MethodName) ({ cls := "java/lang/String", name := "hashCode", desc := "()I" } : Jvm.MethodName)) ∈ lw_all := lw_g (lw_at lw_m4 65 rfl) rfl
theorem q893 : (Jvm.Cond.code ({ cls := "java/lang/String", name := "hashCode", desc := "()I" } : Jvm.MethodName) prog_34_method_78_code (2 : Nat) (Option.some Jvm.ClassFile.FieldType.int)) ∈ lw_all := lw_g (lw_at lw_m4 66 rfl) rfl
theorem q894 : (Jvm.Cond.methodLink "java/lang/String" (492 : Nat) ({ cls := "java/lang/String", name := "isLatin1", desc := "()Z" } : Jvm.MethodName)) ∈ lw_all := lw_g (lw_at lw_m4 67 rfl) rfl
theorem q895 : (Jvm.Cond.instanceMethod ({ cls := "java/lang/String", name := "isLatin1", desc := "()Z" } : Jvm.MethodName)) ∈ lw_all := lw_g (lw_at lw_m4 68 rfl) rfl
theorem q896 : (Jvm.Cond.selects "java/lang/String" ({ cls := "java/lang/String", name := "isLatin1", desc := "()Z" } : Jvm.MethodName) ({ cls := "java/lang/String", name := "isLatin1", desc := "()Z" } : Jvm.MethodName)) ∈ lw_all := lw_g (lw_at lw_m4 69 rfl) rfl
theorem q897 : (Jvm.Cond.code ({ cls := "java/lang/String", name := "isLatin1", desc := "()Z" } : Jvm.MethodName) prog_34_method_154_code (1 : Nat) (Option.some Jvm.ClassFile.FieldType.boolean)) ∈ lw_all := lw_g (lw_at lw_m4 70 rfl) rfl
theorem q898 : (Jvm.Cond.methodLink "java/lang/String" (628 : Nat) ({ cls := "java/lang/StringLatin1", name := "hashCode", desc := "([B)I" } : Jvm.MethodName)) ∈ lw_all := lw_g (lw_at lw_m4 71 rfl) rfl
theorem q899 : (Jvm.Cond.static ({ cls := "java/lang/StringLatin1", name := "hashCode", desc := "([B)I" } : Jvm.MethodName)) ∈ lw_all := lw_g (lw_at lw_m4 72 rfl) rfl
theorem q900 : (Jvm.Cond.code ({ cls := "java/lang/StringLatin1", name := "hashCode", desc := "([B)I" } : Jvm.MethodName) prog_36_method_21_code (1 : Nat) (Option.some Jvm.ClassFile.FieldType.int)) ∈ lw_all := lw_g (lw_at lw_m4 73 rfl) rfl
theorem q901 : (Jvm.Cond.methodLink "java/lang/StringLatin1" (84 : Nat) ({ cls := "jdk/internal/util/ArraysSupport", name := "vectorizedHashCode", desc := "(Ljava/lang/Object;IIII)I" } : Jvm.MethodName)) ∈ lw_all := lw_g (lw_at lw_m4 74 rfl) rfl
theorem q902 : (Jvm.Cond.static ({ cls := "jdk/internal/util/ArraysSupport", name := "vectorizedHashCode", desc := "(Ljava/lang/Object;IIII)I" } : Jvm.MethodName)) ∈ lw_all := lw_g (lw_at lw_m4 75 rfl) rfl
theorem q903 : (Jvm.Cond.code ({ cls := "jdk/internal/util/ArraysSupport", name := "vectorizedHashCode", desc := "(Ljava/lang/Object;IIII)I" } : Jvm.MethodName) prog_55_method_4_code (5 : Nat) (Option.some Jvm.ClassFile.FieldType.int)) ∈ lw_all := lw_g (lw_at lw_m4 76 rfl) rfl
theorem q904 : (Jvm.Cond.classLink "jdk/internal/util/ArraysSupport" (60 : Nat) "[B") ∈ lw_all := lw_g (lw_at lw_m4 77 rfl) rfl
theorem q905 : (Jvm.Cond.methodLink "jdk/internal/util/ArraysSupport" (62 : Nat) ({ cls := "jdk/internal/util/ArraysSupport", name := "signedHashCode", desc := "(I[BII)I" } : Jvm.MethodName)) ∈ lw_all := lw_g (lw_at lw_m4 78 rfl) rfl
theorem q906 : (Jvm.Cond.static ({ cls := "jdk/internal/util/ArraysSupport", name := "signedHashCode", desc := "(I[BII)I" } : Jvm.MethodName)) ∈ lw_all := lw_g (lw_at lw_m4 79 rfl) rfl
theorem q907 : (Jvm.Cond.code ({ cls := "jdk/internal/util/ArraysSupport", name := "signedHashCode", desc := "(I[BII)I" } : Jvm.MethodName) prog_55_method_5_code (6 : Nat) (Option.some Jvm.ClassFile.FieldType.int)) ∈ lw_all := lw_g (lw_at lw_m4 80 rfl) rfl
theorem q908 : (Jvm.Cond.methodLink "jdk/internal/util/ArraysSupport" (66 : Nat) ({ cls := "jdk/internal/util/ArraysSupport", name := "utf16hashCode", desc := "(I[BII)I" } : Jvm.MethodName)) ∈ lw_all := lw_g (lw_at lw_m4 81 rfl) rfl
theorem q909 : (Jvm.Cond.static ({ cls := "jdk/internal/util/ArraysSupport", name := "utf16hashCode", desc := "(I[BII)I" } : Jvm.MethodName)) ∈ lw_all := lw_g (lw_at lw_m4 82 rfl) rfl
theorem q910 : (Jvm.Cond.code ({ cls := "jdk/internal/util/ArraysSupport", name := "utf16hashCode", desc := "(I[BII)I" } : Jvm.MethodName) prog_55_method_10_code (6 : Nat) (Option.some Jvm.ClassFile.FieldType.int)) ∈ lw_all := lw_g (lw_at lw_m4 83 rfl) rfl
theorem q911 : (Jvm.Cond.fieldLink "jdk/internal/util/ArraysSupport" (106 : Nat) "jdk/internal/util/ArraysSupport" "JLA" "Ljdk/internal/access/JavaLangAccess;") ∈ lw_all := lw_g (lw_at lw_m4 84 rfl) rfl
theorem q912 : (Jvm.Cond.laysStatic "jdk/internal/util/ArraysSupport" "JLA" "Ljdk/internal/access/JavaLangAccess;") ∈ lw_tbl := lw_at lw_m4 85 rfl
theorem q913 : (Jvm.Cond.interfaceEntry "jdk/internal/util/ArraysSupport" (110 : Nat)) ∈ lw_tbl := lw_at lw_m4 86 rfl
theorem q914 : (Jvm.Cond.methodLink "jdk/internal/util/ArraysSupport" (110 : Nat) ({ cls := "jdk/internal/access/JavaLangAccess", name := "getUTF16Char", desc := "([BI)C" } : Jvm.MethodName)) ∈ lw_all := lw_g (lw_at lw_m4 87 rfl) rfl
theorem q915 : (Jvm.Cond.interfaceMethod "jdk/internal/access/JavaLangAccess" "jdk/internal/access/JavaLangAccess" "getUTF16Char" "([BI)C") ∈ lw_tbl := lw_at lw_m4 88 rfl
theorem q916 : (Jvm.Cond.declares ({ cls := "jdk/internal/access/JavaLangAccess", name := "getUTF16Char", desc := "([BI)C" } : Jvm.MethodName)) ∈ lw_tbl := lw_at lw_m4 89 rfl
theorem q917 : (Jvm.Cond.castable "java/lang/System$2" "jdk/internal/access/JavaLangAccess") ∈ lw_tbl := lw_at lw_m4 90 rfl
theorem q918 : (Jvm.Cond.selects "java/lang/System$2" ({ cls := "jdk/internal/access/JavaLangAccess", name := "getUTF16Char", desc := "([BI)C" } : Jvm.MethodName) ({ cls := "java/lang/System$2", name := "getUTF16Char", desc := "([BI)C" } : Jvm.MethodName)) ∈ lw_all := lw_g (lw_at lw_m4 91 rfl) rfl
theorem q919 : (Jvm.Cond.unhidden "java/lang/System$2" "getUTF16Char" "([BI)C") ∈ lw_tbl := lw_at lw_m4 92 rfl
theorem q920 : (Jvm.Cond.instanceMethod ({ cls := "java/lang/System$2", name := "getUTF16Char", desc := "([BI)C" } : Jvm.MethodName)) ∈ lw_all := lw_g (lw_at lw_m4 93 rfl) rfl
theorem q921 : (Jvm.Cond.publicMethod ({ cls := "java/lang/System$2", name := "getUTF16Char", desc := "([BI)C" } : Jvm.MethodName)) ∈ lw_tbl := lw_at lw_m4 94 rfl
theorem q922 : (Jvm.Cond.code ({ cls := "java/lang/System$2", name := "getUTF16Char", desc := "([BI)C" } : Jvm.MethodName) prog_39_method_45_code (3 : Nat) (Option.some Jvm.ClassFile.FieldType.char)) ∈ lw_all := lw_g (lw_at lw_m4 95 rfl) rfl
theorem q923 : (Jvm.Cond.methodLink "java/lang/System$2" (185 : Nat) ({ cls := "java/lang/StringUTF16", name := "getChar", desc := "([BI)C" } : Jvm.MethodName)) ∈ lw_all := lw_g (lw_at lw_m4 96 rfl) rfl
theorem q924 : (Jvm.Cond.classLink "jdk/internal/util/ArraysSupport" (69 : Nat) "[C") ∈ lw_all := lw_g (lw_at lw_m4 97 rfl) rfl
theorem q925 : (Jvm.Cond.methodLink "jdk/internal/util/ArraysSupport" (71 : Nat) ({ cls := "jdk/internal/util/ArraysSupport", name := "hashCode", desc := "(I[CII)I" } : Jvm.MethodName)) ∈ lw_all := lw_g (lw_at lw_m4 98 rfl) rfl
theorem q926 : (Jvm.Cond.static ({ cls := "jdk/internal/util/ArraysSupport", name := "hashCode", desc := "(I[CII)I" } : Jvm.MethodName)) ∈ lw_all := lw_g (lw_at lw_m4 99 rfl) rfl
theorem q927 : (Jvm.Cond.code ({ cls := "jdk/internal/util/ArraysSupport", name := "hashCode", desc := "(I[CII)I" } : Jvm.MethodName) prog_55_method_7_code (6 : Nat) (Option.some Jvm.ClassFile.FieldType.int)) ∈ lw_all := lw_g (lw_at lw_m4 100 rfl) rfl
theorem q928 : (Jvm.Cond.methodLink "jdk/internal/util/ArraysSupport" (75 : Nat) ({ cls := "jdk/internal/util/ArraysSupport", name := "hashCode", desc := "(I[BII)I" } : Jvm.MethodName)) ∈ lw_all := lw_g (lw_at lw_m4 101 rfl) rfl
theorem q929 : (Jvm.Cond.static ({ cls := "jdk/internal/util/ArraysSupport", name := "hashCode", desc := "(I[BII)I" } : Jvm.MethodName)) ∈ lw_all := lw_g (lw_at lw_m4 102 rfl) rfl
theorem q930 : (Jvm.Cond.code ({ cls := "jdk/internal/util/ArraysSupport", name := "hashCode", desc := "(I[BII)I" } : Jvm.MethodName) prog_55_method_6_code (6 : Nat) (Option.some Jvm.ClassFile.FieldType.int)) ∈ lw_all := lw_g (lw_at lw_m4 103 rfl) rfl
theorem q931 : (Jvm.Cond.classLink "jdk/internal/util/ArraysSupport" (77 : Nat) "[S") ∈ lw_all := lw_g (lw_at lw_m4 104 rfl) rfl
theorem q932 : (Jvm.Cond.methodLink "jdk/internal/util/ArraysSupport" (79 : Nat) ({ cls := "jdk/internal/util/ArraysSupport", name := "hashCode", desc := "(I[SII)I" } : Jvm.MethodName)) ∈ lw_all := lw_g (lw_at lw_m4 105 rfl) rfl
theorem q933 : (Jvm.Cond.static ({ cls := "jdk/internal/util/ArraysSupport", name := "hashCode", desc := "(I[SII)I" } : Jvm.MethodName)) ∈ lw_all := lw_g (lw_at lw_m4 106 rfl) rfl
theorem q934 : (Jvm.Cond.code ({ cls := "jdk/internal/util/ArraysSupport", name := "hashCode", desc := "(I[SII)I" } : Jvm.MethodName) prog_55_method_8_code (6 : Nat) (Option.some Jvm.ClassFile.FieldType.int)) ∈ lw_all := lw_g (lw_at lw_m4 107 rfl) rfl
theorem q935 : (Jvm.Cond.classLink "jdk/internal/util/ArraysSupport" (82 : Nat) "[I") ∈ lw_all := lw_g (lw_at lw_m4 108 rfl) rfl
theorem q936 : (Jvm.Cond.methodLink "jdk/internal/util/ArraysSupport" (84 : Nat) ({ cls := "jdk/internal/util/ArraysSupport", name := "hashCode", desc := "(I[III)I" } : Jvm.MethodName)) ∈ lw_all := lw_g (lw_at lw_m4 109 rfl) rfl
theorem q937 : (Jvm.Cond.static ({ cls := "jdk/internal/util/ArraysSupport", name := "hashCode", desc := "(I[III)I" } : Jvm.MethodName)) ∈ lw_all := lw_g (lw_at lw_m4 110 rfl) rfl
theorem q938 : (Jvm.Cond.code ({ cls := "jdk/internal/util/ArraysSupport", name := "hashCode", desc := "(I[III)I" } : Jvm.MethodName) prog_55_method_9_code (6 : Nat) (Option.some Jvm.ClassFile.FieldType.int)) ∈ lw_all := lw_g (lw_at lw_m4 111 rfl) rfl
theorem q939 : (Jvm.Cond.classLink "jdk/internal/util/ArraysSupport" (87 : Nat) "java/lang/IllegalArgumentException") ∈ lw_all := lw_g (lw_at lw_m4 112 rfl) rfl
theorem q940 : (Jvm.Cond.classLink "jdk/internal/util/ArraysSupport" (89 : Nat) "java/lang/StringBuilder") ∈ lw_all := lw_g (lw_at lw_m4 113 rfl) rfl
theorem q941 : (Jvm.Cond.methodLink "jdk/internal/util/ArraysSupport" (91 : Nat) ({ cls := "java/lang/StringBuilder", name := "<init>", desc := "()V" } : Jvm.MethodName)) ∈ lw_all := lw_g (lw_at lw_m4 114 rfl) rfl
theorem q942 : (Jvm.Cond.stringRef "jdk/internal/util/ArraysSupport" (92 : Nat) "unrecognized basic type: ") ∈ lw_tbl := lw_at lw_m4 115 rfl
theorem q943 : (Jvm.Cond.methodLink "jdk/internal/util/ArraysSupport" (94 : Nat) ({ cls := "java/lang/StringBuilder", name := "append", desc := "(Ljava/lang/String;)Ljava/lang/StringBuilder;" } : Jvm.MethodName)) ∈ lw_all := lw_g (lw_at lw_m4 116 rfl) rfl
theorem q944 : (Jvm.Cond.methodLink "jdk/internal/util/ArraysSupport" (98 : Nat) ({ cls := "java/lang/StringBuilder", name := "append", desc := "(I)Ljava/lang/StringBuilder;" } : Jvm.MethodName)) ∈ lw_all := lw_g (lw_at lw_m4 117 rfl) rfl
theorem q945 : (Jvm.Cond.methodLink "jdk/internal/util/ArraysSupport" (101 : Nat) ({ cls := "java/lang/StringBuilder", name := "toString", desc := "()Ljava/lang/String;" } : Jvm.MethodName)) ∈ lw_all := lw_g (lw_at lw_m4 118 rfl) rfl
theorem q946 : (Jvm.Cond.methodLink "jdk/internal/util/ArraysSupport" (105 : Nat) ({ cls := "java/lang/IllegalArgumentException", name := "<init>", desc := "(Ljava/lang/String;)V" } : Jvm.MethodName)) ∈ lw_all := lw_g (lw_at lw_m4 119 rfl) rfl
theorem q947 : (Jvm.Cond.methodLink "java/lang/String" (632 : Nat) ({ cls := "java/lang/StringUTF16", name := "hashCode", desc := "([B)I" } : Jvm.MethodName)) ∈ lw_all := lw_g (lw_at lw_m4 120 rfl) rfl
theorem q948 : (Jvm.Cond.static ({ cls := "java/lang/StringUTF16", name := "hashCode", desc := "([B)I" } : Jvm.MethodName)) ∈ lw_all := lw_g (lw_at lw_m4 121 rfl) rfl
theorem q949 : (Jvm.Cond.code ({ cls := "java/lang/StringUTF16", name := "hashCode", desc := "([B)I" } : Jvm.MethodName) prog_37_method_39_code (1 : Nat) (Option.some Jvm.ClassFile.FieldType.int)) ∈ lw_all := lw_g (lw_at lw_m4 122 rfl) rfl
theorem q950 : (Jvm.Cond.methodLink "java/lang/StringUTF16" (220 : Nat) ({ cls := "jdk/internal/util/ArraysSupport", name := "vectorizedHashCode", desc := "(Ljava/lang/Object;IIII)I" } : Jvm.MethodName)) ∈ lw_all := lw_g (lw_at lw_m4 123 rfl) rfl
theorem q951 : (Jvm.Cond.stringRef "CircuitDesk$Parser" (113 : Nat) "node") ∈ lw_tbl := lw_at lw_m4 124 rfl
theorem q952 : (Jvm.Cond.methodLink "CircuitDesk$Parser" (103 : Nat) ({ cls := "java/lang/String", name := "equals", desc := "(Ljava/lang/Object;)Z" } : Jvm.MethodName)) ∈ lw_all := lw_g (lw_at lw_m4 125 rfl) rfl
theorem q953 : (Jvm.Cond.instanceMethod ({ cls := "java/lang/String", name := "equals", desc := "(Ljava/lang/Object;)Z" } : Jvm.MethodName)) ∈ lw_all := lw_g (lw_at lw_m4 126 rfl) rfl
theorem q954 : (Jvm.Cond.selects "java/lang/String" ({ cls := "java/lang/String", name := "equals", desc := "(Ljava/lang/Object;)Z" } : Jvm.MethodName) ({ cls := "java/lang/String", name := "equals", desc := "(Ljava/lang/Object;)Z" } : Jvm.MethodName)) ∈ lw_all := lw_g (lw_at lw_m4 127 rfl) rfl
theorem q955 : (Jvm.Cond.code ({ cls := "java/lang/String", name := "equals", desc := "(Ljava/lang/Object;)Z" } : Jvm.MethodName) prog_34_method_66_code (3 : Nat) (Option.some Jvm.ClassFile.FieldType.boolean)) ∈ lw_all := lw_g (lw_at lw_m4 128 rfl) rfl
theorem q956 : (Jvm.Cond.classLink "java/lang/String" (10 : Nat) "java/lang/String") ∈ lw_all := lw_g (lw_at lw_m4 129 rfl) rfl
theorem q957 : (Jvm.Cond.methodLink "java/lang/String" (541 : Nat) ({ cls := "java/lang/StringLatin1", name := "equals", desc := "([B[B)Z" } : Jvm.MethodName)) ∈ lw_all := lw_g (lw_at lw_m4 130 rfl) rfl
theorem q958 : (Jvm.Cond.static ({ cls := "java/lang/StringLatin1", name := "equals", desc := "([B[B)Z" } : Jvm.MethodName)) ∈ lw_all := lw_g (lw_at lw_m4 131 rfl) rfl
theorem q959 : (Jvm.Cond.code ({ cls := "java/lang/StringLatin1", name := "equals", desc := "([B[B)Z" } : Jvm.MethodName) prog_36_method_13_code (3 : Nat) (Option.some Jvm.ClassFile.FieldType.boolean)) ∈ lw_all := lw_g (lw_at lw_m4 132 rfl) rfl
theorem q960 : (Jvm.Cond.stringRef "CircuitDesk$Parser" (115 : Nat) "link") ∈ lw_tbl := lw_at lw_m4 133 rfl
theorem q961 : (Jvm.Cond.stringRef "CircuitDesk$Parser" (117 : Nat) "circuit") ∈ lw_tbl := lw_at lw_m4 134 rfl
theorem q962 : (Jvm.Cond.stringRef "CircuitDesk$Parser" (119 : Nat) "set") ∈ lw_tbl := lw_at lw_m4 135 rfl
theorem q963 : (Jvm.Cond.methodLink "CircuitDesk$Parser" (125 : Nat) ({ cls := "java/util/ArrayList", name := "size", desc := "()I" } : Jvm.MethodName)) ∈ lw_all := lw_g (lw_at lw_m4 136 rfl) rfl
theorem q964 : (Jvm.Cond.methodLink "CircuitDesk$Parser" (91 : Nat) ({ cls := "CircuitDesk$Parser", name := "require", desc := "(ZI)V" } : Jvm.MethodName)) ∈ lw_all := lw_g (lw_at lw_m4 137 rfl) rfl
theorem q965 : (Jvm.Cond.privateMethod ({ cls := "CircuitDesk$Parser", name := "require", desc := "(ZI)V" } : Jvm.MethodName)) ∈ lw_tbl := lw_at lw_m4 138 rfl
theorem q966 : (Jvm.Cond.instanceMethod ({ cls := "CircuitDesk$Parser", name := "require", desc := "(ZI)V" } : Jvm.MethodName)) ∈ lw_all := lw_g (lw_at lw_m4 139 rfl) rfl
theorem q967 : (Jvm.Cond.code ({ cls := "CircuitDesk$Parser", name := "require", desc := "(ZI)V" } : Jvm.MethodName) prog_10_method_4_code (3 : Nat) (Option.none : Option Jvm.ClassFile.FieldType)) ∈ lw_all := lw_g (lw_at lw_m4 140 rfl) rfl
theorem q968 : (Jvm.Cond.classLink "CircuitDesk$Parser" (86 : Nat) "CircuitDesk$TextError") ∈ lw_all := lw_g (lw_at lw_m4 141 rfl) rfl
theorem q969 : (Jvm.Cond.instantiable "CircuitDesk$TextError" (8 : Nat)) ∈ lw_all := lw_g (lw_at lw_m4 142 rfl) rfl
theorem q970 : (Jvm.Cond.castable "CircuitDesk$TextError" "CircuitDesk$TextError") ∈ lw_tbl := lw_at lw_m4 143 rfl
theorem q971 : (Jvm.Cond.selects "CircuitDesk$TextError" ({ cls := "java/lang/Throwable", name := "fillInStackTrace", desc := "(I)Ljava/lang/Throwable;" } : Jvm.MethodName) ({ cls := "java/lang/Throwable", name := "fillInStackTrace", desc := "(I)Ljava/lang/Throwable;" } : Jvm.MethodName)) ∈ lw_all := lw_g (lw_at lw_m4 144 rfl) rfl
theorem q972 : (Jvm.Cond.lays "CircuitDesk$TextError" "java/lang/Throwable" "cause" "Ljava/lang/Throwable;") ∈ lw_all := lw_g (lw_at lw_m4 145 rfl) rfl
theorem q973 : (Jvm.Cond.lays "CircuitDesk$TextError" "java/lang/Throwable" "stackTrace" "[Ljava/lang/StackTraceElement;") ∈ lw_all := lw_g (lw_at lw_m4 146 rfl) rfl
theorem q974 : (Jvm.Cond.lays "CircuitDesk$TextError" "java/lang/Throwable" "suppressedExceptions" "Ljava/util/List;") ∈ lw_all := lw_g (lw_at lw_m4 147 rfl) rfl
theorem q975 : (Jvm.Cond.lays "CircuitDesk$TextError" "java/lang/Throwable" "detailMessage" "Ljava/lang/String;") ∈ lw_all := lw_g (lw_at lw_m4 148 rfl) rfl
theorem q976 : (Jvm.Cond.lays "CircuitDesk$TextError" "java/lang/Throwable" "backtrace" "Ljava/lang/Object;") ∈ lw_all := lw_g (lw_at lw_m4 149 rfl) rfl
theorem q977 : (Jvm.Cond.methodLink "CircuitDesk$Parser" (88 : Nat) ({ cls := "CircuitDesk$TextError", name := "<init>", desc := "(II)V" } : Jvm.MethodName)) ∈ lw_all := lw_g (lw_at lw_m4 150 rfl) rfl
theorem q978 : (Jvm.Cond.instanceMethod ({ cls := "CircuitDesk$TextError", name := "<init>", desc := "(II)V" } : Jvm.MethodName)) ∈ lw_all := lw_g (lw_at lw_m4 151 rfl) rfl
theorem q979 : (Jvm.Cond.code ({ cls := "CircuitDesk$TextError", name := "<init>", desc := "(II)V" } : Jvm.MethodName) prog_14_method_1_code (3 : Nat) (Option.none : Option Jvm.ClassFile.FieldType)) ∈ lw_all := lw_g (lw_at lw_m4 152 rfl) rfl
theorem q980 : (Jvm.Cond.methodLink "CircuitDesk$TextError" (1 : Nat) ({ cls := "java/lang/Exception", name := "<init>", desc := "(Ljava/lang/String;Ljava/lang/Throwable;ZZ)V" } : Jvm.MethodName)) ∈ lw_all := lw_g (lw_at lw_m4 153 rfl) rfl
theorem q981 : (Jvm.Cond.instanceMethod ({ cls := "java/lang/Exception", name := "<init>", desc := "(Ljava/lang/String;Ljava/lang/Throwable;ZZ)V" } : Jvm.MethodName)) ∈ lw_all := lw_g (lw_at lw_m4 154 rfl) rfl
theorem q982 : (Jvm.Cond.code ({ cls := "java/lang/Exception", name := "<init>", desc := "(Ljava/lang/String;Ljava/lang/Throwable;ZZ)V" } : Jvm.MethodName) prog_25_method_5_code (5 : Nat) (Option.none : Option Jvm.ClassFile.FieldType)) ∈ lw_all := lw_g (lw_at lw_m4 155 rfl) rfl
theorem q983 : (Jvm.Cond.methodLink "java/lang/Exception" (16 : Nat) ({ cls := "java/lang/Throwable", name := "<init>", desc := "(Ljava/lang/String;Ljava/lang/Throwable;ZZ)V" } : Jvm.MethodName)) ∈ lw_all := lw_g (lw_at lw_m4 156 rfl) rfl
theorem q984 : (Jvm.Cond.instanceMethod ({ cls := "java/lang/Throwable", name := "<init>", desc := "(Ljava/lang/String;Ljava/lang/Throwable;ZZ)V" } : Jvm.MethodName)) ∈ lw_all := lw_g (lw_at lw_m4 157 rfl) rfl
theorem q985 : (Jvm.Cond.code ({ cls := "java/lang/Throwable", name := "<init>", desc := "(Ljava/lang/String;Ljava/lang/Throwable;ZZ)V" } : Jvm.MethodName) prog_40_method_5_code (5 : Nat) (Option.none : Option Jvm.ClassFile.FieldType)) ∈ lw_all := lw_g (lw_at lw_m4 158 rfl) rfl
theorem q986 : (Jvm.Cond.fieldLink "CircuitDesk$TextError" (7 : Nat) "CircuitDesk$TextError" "code" "I") ∈ lw_all := lw_g (lw_at lw_m4 159 rfl) rfl
theorem q987 : (Jvm.Cond.fieldLinkNest "CircuitDesk" (411 : Nat) "CircuitDesk$TextError" "code" "I" "CircuitDesk") ∈ lw_tbl := lw_at lw_m4 160 rfl
theorem q988 : (Jvm.Cond.fieldLink "CircuitDesk$TextError" (13 : Nat) "CircuitDesk$TextError" "position" "I") ∈ lw_all := lw_g (lw_at lw_m4 161 rfl) rfl
theorem q989 : (Jvm.Cond.fieldLinkNest "CircuitDesk" (414 : Nat) "CircuitDesk$TextError" "position" "I" "CircuitDesk") ∈ lw_tbl := lw_at lw_m4 162 rfl
theorem q990 : (Jvm.Cond.laysFinal "CircuitDesk$TextError" "CircuitDesk$TextError" "code" "I") ∈ lw_all := lw_g (lw_at lw_m4 163 rfl) rfl
theorem q991 : (Jvm.Cond.soleField "CircuitDesk$TextError" "code") ∈ lw_all := lw_g (lw_at lw_m4 164 rfl) rfl
theorem q992 : (Jvm.Cond.laysFinal "CircuitDesk$TextError" "CircuitDesk$TextError" "position" "I") ∈ lw_all := lw_g (lw_at lw_m4 165 rfl) rfl
theorem q993 : (Jvm.Cond.soleField "CircuitDesk$TextError" "position") ∈ lw_all := lw_g (lw_at lw_m4 166 rfl) rfl
theorem q994 : (Jvm.Cond.lays "CircuitDesk$TextError" "java/lang/Throwable" "depth" "I") ∈ lw_all := lw_g (lw_at lw_m4 167 rfl) rfl
theorem q995 : (Jvm.Cond.superclass "CircuitDesk$TextError" "java/lang/Exception") ∈ lw_all := lw_g (lw_at lw_m4 168 rfl) rfl
theorem q996 : (Jvm.Cond.classLink "CircuitDesk$Parser" (130 : Nat) "CircuitDesk$Node") ∈ lw_all := lw_g (lw_at lw_m4 169 rfl) rfl
theorem q997 : (Jvm.Cond.instantiable "CircuitDesk$Node" (5 : Nat)) ∈ lw_all := lw_g (lw_at lw_m4 170 rfl) rfl
theorem q998 : (Jvm.Cond.methodLink "CircuitDesk$Parser" (132 : Nat) ({ cls := "CircuitDesk$Parser", name := "number", desc := "(II)I" } : Jvm.MethodName)) ∈ lw_all := lw_g (lw_at lw_m4 171 rfl) rfl
theorem q999 : (Jvm.Cond.privateMethod ({ cls := "CircuitDesk$Parser", name := "number", desc := "(II)I" } : Jvm.MethodName)) ∈ lw_tbl := lw_at lw_m4 172 rfl
theorem q1000 : (Jvm.Cond.instanceMethod ({ cls := "CircuitDesk$Parser", name := "number", desc := "(II)I" } : Jvm.MethodName)) ∈ lw_all := lw_g (lw_at lw_m4 173 rfl) rfl
theorem q1001 : (Jvm.Cond.code ({ cls := "CircuitDesk$Parser", name := "number", desc := "(II)I" } : Jvm.MethodName) prog_10_method_6_code (4 : Nat) (Option.some Jvm.ClassFile.FieldType.int)) ∈ lw_all := lw_g (lw_at lw_m4 174 rfl) rfl
theorem q1002 : (Jvm.Cond.methodLink "CircuitDesk$Parser" (95 : Nat) ({ cls := "CircuitDesk$Parser", name := "look", desc := "(II)I" } : Jvm.MethodName)) ∈ lw_all := lw_g (lw_at lw_m4 175 rfl) rfl
theorem q1003 : (Jvm.Cond.privateMethod ({ cls := "CircuitDesk$Parser", name := "look", desc := "(II)I" } : Jvm.MethodName)) ∈ lw_tbl := lw_at lw_m4 176 rfl
theorem q1004 : (Jvm.Cond.instanceMethod ({ cls := "CircuitDesk$Parser", name := "look", desc := "(II)I" } : Jvm.MethodName)) ∈ lw_all := lw_g (lw_at lw_m4 177 rfl) rfl
theorem q1005 : (Jvm.Cond.code ({ cls := "CircuitDesk$Parser", name := "look", desc := "(II)I" } : Jvm.MethodName) prog_10_method_5_code (3 : Nat) (Option.some Jvm.ClassFile.FieldType.int)) ∈ lw_all := lw_g (lw_at lw_m4 178 rfl) rfl
theorem q1006 : (Jvm.Cond.methodLink "CircuitDesk$Parser" (134 : Nat) ({ cls := "CircuitDesk$Node", name := "<init>", desc := "(I)V" } : Jvm.MethodName)) ∈ lw_all := lw_g (lw_at lw_m4 179 rfl) rfl
theorem q1007 : (Jvm.Cond.instanceMethod ({ cls := "CircuitDesk$Node", name := "<init>", desc := "(I)V" } : Jvm.MethodName)) ∈ lw_all := lw_g (lw_at lw_m4 180 rfl) rfl
theorem q1008 : (Jvm.Cond.code ({ cls := "CircuitDesk$Node", name := "<init>", desc := "(I)V" } : Jvm.MethodName) prog_8_method_1_code (3 : Nat) (Option.none : Option Jvm.ClassFile.FieldType)) ∈ lw_all := lw_g (lw_at lw_m4 181 rfl) rfl
theorem q1009 : (Jvm.Cond.methodLink "CircuitDesk$Node" (3 : Nat) ({ cls := "java/lang/Object", name := "<init>", desc := "()V" } : Jvm.MethodName)) ∈ lw_all := lw_g (lw_at lw_m4 182 rfl) rfl
theorem q1010 : (Jvm.Cond.fieldLink "CircuitDesk$Node" (9 : Nat) "CircuitDesk$Node" "space" "I") ∈ lw_all := lw_g (lw_at lw_m4 183 rfl) rfl
theorem q1011 : (Jvm.Cond.fieldLinkNest "CircuitDesk" (188 : Nat) "CircuitDesk$Node" "space" "I" "CircuitDesk") ∈ lw_tbl := lw_at lw_m4 184 rfl
theorem q1012 : (Jvm.Cond.fieldLinkNest "CircuitDesk$Net" (362 : Nat) "CircuitDesk$Node" "space" "I" "CircuitDesk") ∈ lw_tbl := lw_at lw_m4 185 rfl
theorem q1013 : (Jvm.Cond.fieldLink "CircuitDesk$Node" (15 : Nat) "CircuitDesk$Node" "holder" "[I") ∈ lw_all := lw_g (lw_at lw_m4 186 rfl) rfl
theorem q1014 : (Jvm.Cond.fieldLinkNest "CircuitDesk" (191 : Nat) "CircuitDesk$Node" "holder" "[I" "CircuitDesk") ∈ lw_tbl := lw_at lw_m4 187 rfl
theorem q1015 : (Jvm.Cond.fieldLinkNest "CircuitDesk$Net" (262 : Nat) "CircuitDesk$Node" "holder" "[I" "CircuitDesk") ∈ lw_tbl := lw_at lw_m4 188 rfl
theorem q1016 : (Jvm.Cond.fieldLink "CircuitDesk$Node" (19 : Nat) "CircuitDesk$Node" "circuit" "[I") ∈ lw_all := lw_g (lw_at lw_m4 189 rfl) rfl
theorem q1017 : (Jvm.Cond.fieldLinkNest "CircuitDesk" (214 : Nat) "CircuitDesk$Node" "circuit" "[I" "CircuitDesk") ∈ lw_tbl := lw_at lw_m4 190 rfl
theorem q1018 : (Jvm.Cond.fieldLinkNest "CircuitDesk$Net" (265 : Nat) "CircuitDesk$Node" "circuit" "[I" "CircuitDesk") ∈ lw_tbl := lw_at lw_m4 191 rfl
theorem q1019 : (Jvm.Cond.fieldLink "CircuitDesk$Node" (22 : Nat) "CircuitDesk$Node" "isNew" "[Z") ∈ lw_all := lw_g (lw_at lw_m4 192 rfl) rfl
theorem q1020 : (Jvm.Cond.fieldLinkNest "CircuitDesk$Net" (210 : Nat) "CircuitDesk$Node" "isNew" "[Z" "CircuitDesk") ∈ lw_tbl := lw_at lw_m4 193 rfl
theorem q1021 : (Jvm.Cond.fieldLinkNest "CircuitDesk" (217 : Nat) "CircuitDesk$Node" "isNew" "[Z" "CircuitDesk") ∈ lw_tbl := lw_at lw_m4 194 rfl
theorem q1022 : (Jvm.Cond.fieldLink "CircuitDesk$Node" (26 : Nat) "CircuitDesk$Node" "isMade" "[Z") ∈ lw_all := lw_g (lw_at lw_m4 195 rfl) rfl
theorem q1023 : (Jvm.Cond.fieldLinkNest "CircuitDesk$Net" (202 : Nat) "CircuitDesk$Node" "isMade" "[Z" "CircuitDesk") ∈ lw_tbl := lw_at lw_m4 196 rfl
theorem q1024 : (Jvm.Cond.fieldLinkNest "CircuitDesk" (194 : Nat) "CircuitDesk$Node" "isMade" "[Z" "CircuitDesk") ∈ lw_tbl := lw_at lw_m4 197 rfl
theorem q1025 : (Jvm.Cond.laysFinal "CircuitDesk$Node" "CircuitDesk$Node" "space" "I") ∈ lw_all := lw_g (lw_at lw_m4 198 rfl) rfl
theorem q1026 : (Jvm.Cond.soleField "CircuitDesk$Node" "space") ∈ lw_all := lw_g (lw_at lw_m4 199 rfl) rfl
theorem q1027 : (Jvm.Cond.lays "CircuitDesk$Node" "CircuitDesk$Node" "holder" "[I") ∈ lw_all := lw_g (lw_at lw_m4 200 rfl) rfl
theorem q1028 : (Jvm.Cond.soleField "CircuitDesk$Node" "holder") ∈ lw_all := lw_g (lw_at lw_m4 201 rfl) rfl
theorem q1029 : (Jvm.Cond.lays "CircuitDesk$Node" "CircuitDesk$Node" "circuit" "[I") ∈ lw_all := lw_g (lw_at lw_m4 202 rfl) rfl
theorem q1030 : (Jvm.Cond.soleField "CircuitDesk$Node" "circuit") ∈ lw_all := lw_g (lw_at lw_m4 203 rfl) rfl
theorem q1031 : (Jvm.Cond.lays "CircuitDesk$Node" "CircuitDesk$Node" "isNew" "[Z") ∈ lw_all := lw_g (lw_at lw_m4 204 rfl) rfl
theorem q1032 : (Jvm.Cond.soleField "CircuitDesk$Node" "isNew") ∈ lw_all := lw_g (lw_at lw_m4 205 rfl) rfl
theorem q1033 : (Jvm.Cond.lays "CircuitDesk$Node" "CircuitDesk$Node" "isMade" "[Z") ∈ lw_all := lw_g (lw_at lw_m4 206 rfl) rfl
theorem q1034 : (Jvm.Cond.soleField "CircuitDesk$Node" "isMade") ∈ lw_all := lw_g (lw_at lw_m4 207 rfl) rfl
theorem q1035 : (Jvm.Cond.superclass "CircuitDesk$Node" "java/lang/Object") ∈ lw_all := lw_g (lw_at lw_m4 208 rfl) rfl
theorem q1036 : (Jvm.Cond.methodLink "CircuitDesk$Parser" (137 : Nat) ({ cls := "java/util/ArrayList", name := "add", desc := "(Ljava/lang/Object;)Z" } : Jvm.MethodName)) ∈ lw_all := lw_g (lw_at lw_m4 209 rfl) rfl
theorem q1037 : (Jvm.Cond.instanceMethod ({ cls := "java/util/ArrayList", name := "add", desc := "(Ljava/lang/Object;)Z" } : Jvm.MethodName)) ∈ lw_all := lw_g (lw_at lw_m4 210 rfl) rfl
theorem q1038 : (Jvm.Cond.selects "java/util/ArrayList" ({ cls := "java/util/ArrayList", name := "add", desc := "(Ljava/lang/Object;)Z" } : Jvm.MethodName) ({ cls := "java/util/ArrayList", name := "add", desc := "(Ljava/lang/Object;)Z" } : Jvm.MethodName)) ∈ lw_all := lw_g (lw_at lw_m4 211 rfl) rfl
theorem q1039 : (Jvm.Cond.code ({ cls := "java/util/ArrayList", name := "add", desc := "(Ljava/lang/Object;)Z" } : Jvm.MethodName) prog_45_method_25_code (2 : Nat) (Option.some Jvm.ClassFile.FieldType.boolean)) ∈ lw_all := lw_g (lw_at lw_m4 212 rfl) rfl
theorem q1040 : (Jvm.Cond.methodLink "java/util/ArrayList" (131 : Nat) ({ cls := "java/util/ArrayList", name := "add", desc := "(Ljava/lang/Object;[Ljava/lang/Object;I)V" } : Jvm.MethodName)) ∈ lw_all := lw_g (lw_at lw_m4 213 rfl) rfl
theorem q1041 : (Jvm.Cond.privateMethod ({ cls := "java/util/ArrayList", name := "add", desc := "(Ljava/lang/Object;[Ljava/lang/Object;I)V" } : Jvm.MethodName)) ∈ lw_tbl := lw_at lw_m4 214 rfl
theorem q1042 : (Jvm.Cond.instanceMethod ({ cls := "java/util/ArrayList", name := "add", desc := "(Ljava/lang/Object;[Ljava/lang/Object;I)V" } : Jvm.MethodName)) ∈ lw_all := lw_g (lw_at lw_m4 215 rfl) rfl
theorem q1043 : (Jvm.Cond.code ({ cls := "java/util/ArrayList", name := "add", desc := "(Ljava/lang/Object;[Ljava/lang/Object;I)V" } : Jvm.MethodName) prog_45_method_24_code (4 : Nat) (Option.none : Option Jvm.ClassFile.FieldType)) ∈ lw_all := lw_g (lw_at lw_m4 216 rfl) rfl
theorem q1044 : (Jvm.Cond.methodLink "java/util/ArrayList" (129 : Nat) ({ cls := "java/util/ArrayList", name := "grow", desc := "()[Ljava/lang/Object;" } : Jvm.MethodName)) ∈ lw_all := lw_g (lw_at lw_m4 217 rfl) rfl
theorem q1045 : (Jvm.Cond.privateMethod ({ cls := "java/util/ArrayList", name := "grow", desc := "()[Ljava/lang/Object;" } : Jvm.MethodName)) ∈ lw_tbl := lw_at lw_m4 218 rfl
theorem q1046 : (Jvm.Cond.instanceMethod ({ cls := "java/util/ArrayList", name := "grow", desc := "()[Ljava/lang/Object;" } : Jvm.MethodName)) ∈ lw_all := lw_g (lw_at lw_m4 219 rfl) rfl
theorem q1047 : (Jvm.Cond.code ({ cls := "java/util/ArrayList", name := "grow", desc := "()[Ljava/lang/Object;" } : Jvm.MethodName) prog_45_method_7_code (1 : Nat) (Option.some (Jvm.ClassFile.FieldType.array (Jvm.ClassFile.FieldType.object "java/lang/Object")))) ∈ lw_all := lw_g (lw_at lw_m4 220 rfl) rfl
theorem q1048 : (Jvm.Cond.methodLink "java/util/ArrayList" (69 : Nat) ({ cls := "java/util/ArrayList", name := "grow", desc := "(I)[Ljava/lang/Object;" } : Jvm.MethodName)) ∈ lw_all := lw_g (lw_at lw_m4 221 rfl) rfl
theorem q1049 : (Jvm.Cond.privateMethod ({ cls := "java/util/ArrayList", name := "grow", desc := "(I)[Ljava/lang/Object;" } : Jvm.MethodName)) ∈ lw_tbl := lw_at lw_m4 222 rfl
theorem q1050 : (Jvm.Cond.instanceMethod ({ cls := "java/util/ArrayList", name := "grow", desc := "(I)[Ljava/lang/Object;" } : Jvm.MethodName)) ∈ lw_all := lw_g (lw_at lw_m4 223 rfl) rfl
theorem q1051 : (Jvm.Cond.code ({ cls := "java/util/ArrayList", name := "grow", desc := "(I)[Ljava/lang/Object;" } : Jvm.MethodName) prog_45_method_6_code (4 : Nat) (Option.some (Jvm.ClassFile.FieldType.array (Jvm.ClassFile.FieldType.object "java/lang/Object")))) ∈ lw_all := lw_g (lw_at lw_m4 224 rfl) rfl
theorem q1052 : (Jvm.Cond.fieldLink "java/util/ArrayList" (39 : Nat) "java/util/ArrayList" "DEFAULTCAPACITY_EMPTY_ELEMENTDATA" "[Ljava/lang/Object;") ∈ lw_all := lw_g (lw_at lw_m4 225 rfl) rfl
theorem q1053 : (Jvm.Cond.laysStatic "java/util/ArrayList" "DEFAULTCAPACITY_EMPTY_ELEMENTDATA" "[Ljava/lang/Object;") ∈ lw_tbl := lw_at lw_m4 226 rfl
theorem q1054 : (Jvm.Cond.methodLink "java/util/ArrayList" (73 : Nat) ({ cls := "jdk/internal/util/ArraysSupport", name := "newLength", desc := "(III)I" } : Jvm.MethodName)) ∈ lw_all := lw_g (lw_at lw_m4 227 rfl) rfl
theorem q1055 : (Jvm.Cond.methodLink "java/util/ArrayList" (66 : Nat) ({ cls := "java/util/Arrays", name := "copyOf", desc := "([Ljava/lang/Object;I)[Ljava/lang/Object;" } : Jvm.MethodName)) ∈ lw_all := lw_g (lw_at lw_m4 228 rfl) rfl
theorem q1056 : (Jvm.Cond.static ({ cls := "java/util/Arrays", name := "copyOf", desc := "([Ljava/lang/Object;I)[Ljava/lang/Object;" } : Jvm.MethodName)) ∈ lw_all := lw_g (lw_at lw_m4 229 rfl) rfl
theorem q1057 : (Jvm.Cond.code ({ cls := "java/util/Arrays", name := "copyOf", desc := "([Ljava/lang/Object;I)[Ljava/lang/Object;" } : Jvm.MethodName) prog_47_method_119_code (2 : Nat) (Option.some (Jvm.ClassFile.FieldType.array (Jvm.ClassFile.FieldType.object "java/lang/Object")))) ∈ lw_all := lw_g (lw_at lw_m4 230 rfl) rfl
theorem q1058 : (Jvm.Cond.methodLink "java/util/Arrays" (86 : Nat) ({ cls := "java/lang/Object", name := "getClass", desc := "()Ljava/lang/Class;" } : Jvm.MethodName)) ∈ lw_all := lw_g (lw_at lw_m4 231 rfl) rfl
theorem q1059 : (Jvm.Cond.instanceMethod ({ cls := "java/lang/Object", name := "getClass", desc := "()Ljava/lang/Class;" } : Jvm.MethodName)) ∈ lw_all := lw_g (lw_at lw_m4 232 rfl) rfl
theorem q1060 : (Jvm.Cond.sameMethod "java/lang/Object" "java/lang/Object" "getClass" "()Ljava/lang/Class;") ∈ lw_all := lw_g (lw_at lw_m4 233 rfl) rfl
theorem q1061 : (Jvm.Cond.selects "CircuitDesk" ({ cls := "java/lang/Object", name := "getClass", desc := "()Ljava/lang/Class;" } : Jvm.MethodName) ({ cls := "java/lang/Object", name := "getClass", desc := "()Ljava/lang/Class;" } : Jvm.MethodName)) ∈ lw_all := lw_g (lw_at lw_m4 234 rfl) rfl
theorem q1062 : (Jvm.Cond.selects "CircuitDesk$Building" ({ cls := "java/lang/Object", name := "getClass", desc := "()Ljava/lang/Class;" } : Jvm.MethodName) ({ cls := "java/lang/Object", name := "getClass", desc := "()Ljava/lang/Class;" } : Jvm.MethodName)) ∈ lw_all := lw_g (lw_at lw_m4 235 rfl) rfl
theorem q1063 : (Jvm.Cond.selects "CircuitDesk$Circuit" ({ cls := "java/lang/Object", name := "getClass", desc := "()Ljava/lang/Class;" } : Jvm.MethodName) ({ cls := "java/lang/Object", name := "getClass", desc := "()Ljava/lang/Class;" } : Jvm.MethodName)) ∈ lw_all := lw_g (lw_at lw_m4 236 rfl) rfl
theorem q1064 : (Jvm.Cond.selects "CircuitDesk$Clearing" ({ cls := "java/lang/Object", name := "getClass", desc := "()Ljava/lang/Class;" } : Jvm.MethodName) ({ cls := "java/lang/Object", name := "getClass", desc := "()Ljava/lang/Class;" } : Jvm.MethodName)) ∈ lw_all := lw_g (lw_at lw_m4 237 rfl) rfl
theorem q1065 : (Jvm.Cond.selects "CircuitDesk$Draining" ({ cls := "java/lang/Object", name := "getClass", desc := "()Ljava/lang/Class;" } : Jvm.MethodName) ({ cls := "java/lang/Object", name := "getClass", desc := "()Ljava/lang/Class;" } : Jvm.MethodName)) ∈ lw_all := lw_g (lw_at lw_m4 238 rfl) rfl
theorem q1066 : (Jvm.Cond.selects "CircuitDesk$Link" ({ cls := "java/lang/Object", name := "getClass", desc := "()Ljava/lang/Class;" } : Jvm.MethodName) ({ cls := "java/lang/Object", name := "getClass", desc := "()Ljava/lang/Class;" } : Jvm.MethodName)) ∈ lw_all := lw_g (lw_at lw_m4 239 rfl) rfl
theorem q1067 : (Jvm.Cond.selects "CircuitDesk$Net" ({ cls := "java/lang/Object", name := "getClass", desc := "()Ljava/lang/Class;" } : Jvm.MethodName) ({ cls := "java/lang/Object", name := "getClass", desc := "()Ljava/lang/Class;" } : Jvm.MethodName)) ∈ lw_all := lw_g (lw_at lw_m5 0 rfl) rfl
theorem q1068 : (Jvm.Cond.selects "CircuitDesk$Node" ({ cls := "java/lang/Object", name := "getClass", desc := "()Ljava/lang/Class;" } : Jvm.MethodName) ({ cls := "java/lang/Object", name := "getClass", desc := "()Ljava/lang/Class;" } : Jvm.MethodName)) ∈ lw_all := lw_g (lw_at lw_m5 1 rfl) rfl
theorem q1069 : (Jvm.Cond.selects "CircuitDesk$Packet" ({ cls := "java/lang/Object", name := "getClass", desc := "()Ljava/lang/Class;" } : Jvm.MethodName) ({ cls := "java/lang/Object", name := "getClass", desc := "()Ljava/lang/Class;" } : Jvm.MethodName)) ∈ lw_all := lw_g (lw_at lw_m5 2 rfl) rfl
theorem q1070 : (Jvm.Cond.selects "CircuitDesk$Parser" ({ cls := "java/lang/Object", name := "getClass", desc := "()Ljava/lang/Class;" } : Jvm.MethodName) ({ cls := "java/lang/Object", name := "getClass", desc := "()Ljava/lang/Class;" } : Jvm.MethodName)) ∈ lw_all := lw_g (lw_at lw_m5 3 rfl) rfl
theorem q1071 : (Jvm.Cond.selects "CircuitDesk$Resting" ({ cls := "java/lang/Object", name := "getClass", desc := "()Ljava/lang/Class;" } : Jvm.MethodName) ({ cls := "java/lang/Object", name := "getClass", desc := "()Ljava/lang/Class;" } : Jvm.MethodName)) ∈ lw_all := lw_g (lw_at lw_m5 4 rfl) rfl
theorem q1072 : (Jvm.Cond.selects "CircuitDesk$Search" ({ cls := "java/lang/Object", name := "getClass", desc := "()Ljava/lang/Class;" } : Jvm.MethodName) ({ cls := "java/lang/Object", name := "getClass", desc := "()Ljava/lang/Class;" } : Jvm.MethodName)) ∈ lw_all := lw_g (lw_at lw_m5 5 rfl) rfl
theorem q1073 : (Jvm.Cond.selects "CircuitDesk$TextError" ({ cls := "java/lang/Object", name := "getClass", desc := "()Ljava/lang/Class;" } : Jvm.MethodName) ({ cls := "java/lang/Object", name := "getClass", desc := "()Ljava/lang/Class;" } : Jvm.MethodName)) ∈ lw_all := lw_g (lw_at lw_m5 6 rfl) rfl
theorem q1074 : (Jvm.Cond.selects "CircuitDesk$Way" ({ cls := "java/lang/Object", name := "getClass", desc := "()Ljava/lang/Class;" } : Jvm.MethodName) ({ cls := "java/lang/Object", name := "getClass", desc := "()Ljava/lang/Class;" } : Jvm.MethodName)) ∈ lw_all := lw_g (lw_at lw_m5 7 rfl) rfl
theorem q1075 : (Jvm.Cond.selects "CircuitDeskModel" ({ cls := "java/lang/Object", name := "getClass", desc := "()Ljava/lang/Class;" } : Jvm.MethodName) ({ cls := "java/lang/Object", name := "getClass", desc := "()Ljava/lang/Class;" } : Jvm.MethodName)) ∈ lw_all := lw_g (lw_at lw_m5 8 rfl) rfl
theorem q1076 : (Jvm.Cond.selects "java/lang/ArrayIndexOutOfBoundsException" ({ cls := "java/lang/Object", name := "getClass", desc := "()Ljava/lang/Class;" } : Jvm.MethodName) ({ cls := "java/lang/Object", name := "getClass", desc := "()Ljava/lang/Class;" } : Jvm.MethodName)) ∈ lw_all := lw_g (lw_at lw_m5 9 rfl) rfl
theorem q1077 : (Jvm.Cond.selects "java/lang/IllegalArgumentException" ({ cls := "java/lang/Object", name := "getClass", desc := "()Ljava/lang/Class;" } : Jvm.MethodName) ({ cls := "java/lang/Object", name := "getClass", desc := "()Ljava/lang/Class;" } : Jvm.MethodName)) ∈ lw_all := lw_g (lw_at lw_m5 10 rfl) rfl
theorem q1078 : (Jvm.Cond.selects "java/lang/IllegalStateException" ({ cls := "java/lang/Object", name := "getClass", desc := "()Ljava/lang/Class;" } : Jvm.MethodName) ({ cls := "java/lang/Object", name := "getClass", desc := "()Ljava/lang/Class;" } : Jvm.MethodName)) ∈ lw_all := lw_g (lw_at lw_m5 11 rfl) rfl
theorem q1079 : (Jvm.Cond.selects "java/lang/IndexOutOfBoundsException" ({ cls := "java/lang/Object", name := "getClass", desc := "()Ljava/lang/Class;" } : Jvm.MethodName) ({ cls := "java/lang/Object", name := "getClass", desc := "()Ljava/lang/Class;" } : Jvm.MethodName)) ∈ lw_all := lw_g (lw_at lw_m5 12 rfl) rfl
theorem q1080 : (Jvm.Cond.selects "java/lang/String" ({ cls := "java/lang/Object", name := "getClass", desc := "()Ljava/lang/Class;" } : Jvm.MethodName) ({ cls := "java/lang/Object", name := "getClass", desc := "()Ljava/lang/Class;" } : Jvm.MethodName)) ∈ lw_all := lw_g (lw_at lw_m5 13 rfl) rfl
theorem q1081 : (Jvm.Cond.selects "java/lang/StringBuilder" ({ cls := "java/lang/Object", name := "getClass", desc := "()Ljava/lang/Class;" } : Jvm.MethodName) ({ cls := "java/lang/Object", name := "getClass", desc := "()Ljava/lang/Class;" } : Jvm.MethodName)) ∈ lw_all := lw_g (lw_at lw_m5 14 rfl) rfl
theorem q1082 : (Jvm.Cond.selects "java/lang/System$2" ({ cls := "java/lang/Object", name := "getClass", desc := "()Ljava/lang/Class;" } : Jvm.MethodName) ({ cls := "java/lang/Object", name := "getClass", desc := "()Ljava/lang/Class;" } : Jvm.MethodName)) ∈ lw_all := lw_g (lw_at lw_m5 15 rfl) rfl
theorem q1083 : (Jvm.Cond.selects "java/util/ArrayList" ({ cls := "java/lang/Object", name := "getClass", desc := "()Ljava/lang/Class;" } : Jvm.MethodName) ({ cls := "java/lang/Object", name := "getClass", desc := "()Ljava/lang/Class;" } : Jvm.MethodName)) ∈ lw_all := lw_g (lw_at lw_m5 16 rfl) rfl
theorem q1084 : (Jvm.Cond.selects "java/util/ArrayList$Itr" ({ cls := "java/lang/Object", name := "getClass", desc := "()Ljava/lang/Class;" } : Jvm.MethodName) ({ cls := "java/lang/Object", name := "getClass", desc := "()Ljava/lang/Class;" } : Jvm.MethodName)) ∈ lw_all := lw_g (lw_at lw_m5 17 rfl) rfl
theorem q1085 : (Jvm.Cond.native ({ cls := "java/lang/Object", name := "getClass", desc := "()Ljava/lang/Class;" } : Jvm.MethodName)) ∈ lw_all := lw_g (lw_at lw_m5 18 rfl) rfl
theorem q1086 : (Jvm.Cond.methodLink "java/util/Arrays" (300 : Nat) ({ cls := "java/util/Arrays", name := "copyOf", desc := "([Ljava/lang/Object;ILjava/lang/Class;)[Ljava/lang/Object;" } : Jvm.MethodName)) ∈ lw_all := lw_g (lw_at lw_m5 19 rfl) rfl
theorem q1087 : (Jvm.Cond.static ({ cls := "java/util/Arrays", name := "copyOf", desc := "([Ljava/lang/Object;ILjava/lang/Class;)[Ljava/lang/Object;" } : Jvm.MethodName)) ∈ lw_all := lw_g (lw_at lw_m5 20 rfl) rfl
theorem q1088 : (Jvm.Cond.code ({ cls := "java/util/Arrays", name := "copyOf", desc := "([Ljava/lang/Object;ILjava/lang/Class;)[Ljava/lang/Object;" } : Jvm.MethodName) prog_47_method_120_code (4 : Nat) (Option.some (Jvm.ClassFile.FieldType.array (Jvm.ClassFile.FieldType.object "java/lang/Object")))) ∈ lw_all := lw_g (lw_at lw_m5 21 rfl) rfl
theorem q1089 : (Jvm.Cond.classLink "java/util/Arrays" (110 : Nat) "[Ljava/lang/Object;") ∈ lw_all := lw_g (lw_at lw_m5 22 rfl) rfl
theorem q1090 : (Jvm.Cond.classLink "java/util/Arrays" (2 : Nat) "java/lang/Object") ∈ lw_all := lw_g (lw_at lw_m5 23 rfl) rfl
theorem q1091 : (Jvm.Cond.methodLink "java/util/ArrayList" (79 : Nat) ({ cls := "java/lang/Math", name := "max", desc := "(II)I" } : Jvm.MethodName)) ∈ lw_all := lw_g (lw_at lw_m5 24 rfl) rfl
theorem q1092 : (Jvm.Cond.methodLink "CircuitDesk$Parser" (140 : Nat) ({ cls := "CircuitDesk$Parser", name := "link", desc := "()V" } : Jvm.MethodName)) ∈ lw_all := lw_g (lw_at lw_m5 25 rfl) rfl
theorem q1093 : (Jvm.Cond.privateMethod ({ cls := "CircuitDesk$Parser", name := "link", desc := "()V" } : Jvm.MethodName)) ∈ lw_tbl := lw_at lw_m5 26 rfl
theorem q1094 : (Jvm.Cond.instanceMethod ({ cls := "CircuitDesk$Parser", name := "link", desc := "()V" } : Jvm.MethodName)) ∈ lw_all := lw_g (lw_at lw_m5 27 rfl) rfl
theorem q1095 : (Jvm.Cond.code ({ cls := "CircuitDesk$Parser", name := "link", desc := "()V" } : Jvm.MethodName) prog_10_method_9_code (4 : Nat) (Option.none : Option Jvm.ClassFile.FieldType)) ∈ lw_all := lw_g (lw_at lw_m5 28 rfl) rfl
theorem q1096 : (Jvm.Cond.methodLink "CircuitDesk$Parser" (154 : Nat) ({ cls := "CircuitDesk$Net", name := "areJoined", desc := "(II)Z" } : Jvm.MethodName)) ∈ lw_all := lw_g (lw_at lw_m5 29 rfl) rfl
theorem q1097 : (Jvm.Cond.instanceMethod ({ cls := "CircuitDesk$Net", name := "areJoined", desc := "(II)Z" } : Jvm.MethodName)) ∈ lw_all := lw_g (lw_at lw_m5 30 rfl) rfl
theorem q1098 : (Jvm.Cond.selects "CircuitDesk$Net" ({ cls := "CircuitDesk$Net", name := "areJoined", desc := "(II)Z" } : Jvm.MethodName) ({ cls := "CircuitDesk$Net", name := "areJoined", desc := "(II)Z" } : Jvm.MethodName)) ∈ lw_all := lw_g (lw_at lw_m5 31 rfl) rfl
theorem q1099 : (Jvm.Cond.code ({ cls := "CircuitDesk$Net", name := "areJoined", desc := "(II)Z" } : Jvm.MethodName) prog_7_method_4_code (3 : Nat) (Option.some Jvm.ClassFile.FieldType.boolean)) ∈ lw_all := lw_g (lw_at lw_m5 32 rfl) rfl
theorem q1100 : (Jvm.Cond.methodLink "CircuitDesk$Net" (124 : Nat) ({ cls := "CircuitDesk$Net", name := "linkOf", desc := "(II)I" } : Jvm.MethodName)) ∈ lw_all := lw_g (lw_at lw_m5 33 rfl) rfl
theorem q1101 : (Jvm.Cond.classLink "CircuitDesk$Parser" (158 : Nat) "CircuitDesk$Link") ∈ lw_all := lw_g (lw_at lw_m5 34 rfl) rfl
theorem q1102 : (Jvm.Cond.instantiable "CircuitDesk$Link" (5 : Nat)) ∈ lw_all := lw_g (lw_at lw_m5 35 rfl) rfl
theorem q1103 : (Jvm.Cond.methodLink "CircuitDesk$Parser" (160 : Nat) ({ cls := "CircuitDesk$Link", name := "<init>", desc := "(IIII)V" } : Jvm.MethodName)) ∈ lw_all := lw_g (lw_at lw_m5 36 rfl) rfl
theorem q1104 : (Jvm.Cond.instanceMethod ({ cls := "CircuitDesk$Link", name := "<init>", desc := "(IIII)V" } : Jvm.MethodName)) ∈ lw_all := lw_g (lw_at lw_m5 37 rfl) rfl
theorem q1105 : (Jvm.Cond.code ({ cls := "CircuitDesk$Link", name := "<init>", desc := "(IIII)V" } : Jvm.MethodName) prog_6_method_1_code (5 : Nat) (Option.none : Option Jvm.ClassFile.FieldType)) ∈ lw_all := lw_g (lw_at lw_m5 38 rfl) rfl
theorem q1106 : (Jvm.Cond.methodLink "CircuitDesk$Link" (1 : Nat) ({ cls := "java/lang/Object", name := "<init>", desc := "()V" } : Jvm.MethodName)) ∈ lw_all := lw_g (lw_at lw_m5 39 rfl) rfl
theorem q1107 : (Jvm.Cond.fieldLink "CircuitDesk$Link" (13 : Nat) "CircuitDesk$Link" "one" "I") ∈ lw_all := lw_g (lw_at lw_m5 40 rfl) rfl
theorem q1108 : (Jvm.Cond.fieldLinkNest "CircuitDesk$Net" (128 : Nat) "CircuitDesk$Link" "one" "I" "CircuitDesk") ∈ lw_tbl := lw_at lw_m5 41 rfl
theorem q1109 : (Jvm.Cond.fieldLinkNest "CircuitDesk" (220 : Nat) "CircuitDesk$Link" "one" "I" "CircuitDesk") ∈ lw_tbl := lw_at lw_m5 42 rfl
theorem q1110 : (Jvm.Cond.fieldLink "CircuitDesk$Link" (17 : Nat) "CircuitDesk$Link" "other" "I") ∈ lw_all := lw_g (lw_at lw_m5 43 rfl) rfl
theorem q1111 : (Jvm.Cond.fieldLinkNest "CircuitDesk$Net" (131 : Nat) "CircuitDesk$Link" "other" "I" "CircuitDesk") ∈ lw_tbl := lw_at lw_m5 44 rfl
theorem q1112 : (Jvm.Cond.fieldLinkNest "CircuitDesk" (223 : Nat) "CircuitDesk$Link" "other" "I" "CircuitDesk") ∈ lw_tbl := lw_at lw_m5 45 rfl
theorem q1113 : (Jvm.Cond.fieldLink "CircuitDesk$Link" (20 : Nat) "CircuitDesk$Link" "capacity" "I") ∈ lw_all := lw_g (lw_at lw_m5 46 rfl) rfl
theorem q1114 : (Jvm.Cond.fieldLinkNest "CircuitDesk$Net" (163 : Nat) "CircuitDesk$Link" "capacity" "I" "CircuitDesk") ∈ lw_tbl := lw_at lw_m5 47 rfl
theorem q1115 : (Jvm.Cond.fieldLinkNest "CircuitDesk" (226 : Nat) "CircuitDesk$Link" "capacity" "I" "CircuitDesk") ∈ lw_tbl := lw_at lw_m5 48 rfl
theorem q1116 : (Jvm.Cond.fieldLink "CircuitDesk$Link" (23 : Nat) "CircuitDesk$Link" "delay" "I") ∈ lw_all := lw_g (lw_at lw_m5 49 rfl) rfl
theorem q1117 : (Jvm.Cond.fieldLinkNest "CircuitDesk$Search" (82 : Nat) "CircuitDesk$Link" "delay" "I" "CircuitDesk") ∈ lw_tbl := lw_at lw_m5 50 rfl
theorem q1118 : (Jvm.Cond.fieldLinkNest "CircuitDesk$Net" (140 : Nat) "CircuitDesk$Link" "delay" "I" "CircuitDesk") ∈ lw_tbl := lw_at lw_m5 51 rfl
theorem q1119 : (Jvm.Cond.fieldLinkNest "CircuitDesk" (229 : Nat) "CircuitDesk$Link" "delay" "I" "CircuitDesk") ∈ lw_tbl := lw_at lw_m5 52 rfl
theorem q1120 : (Jvm.Cond.fieldLink "CircuitDesk$Link" (7 : Nat) "CircuitDesk$Link" "isUp" "Z") ∈ lw_all := lw_g (lw_at lw_m5 53 rfl) rfl
theorem q1121 : (Jvm.Cond.fieldLinkNest "CircuitDesk$Net" (156 : Nat) "CircuitDesk$Link" "isUp" "Z" "CircuitDesk") ∈ lw_tbl := lw_at lw_m5 54 rfl
theorem q1122 : (Jvm.Cond.fieldLinkNest "CircuitDesk" (115 : Nat) "CircuitDesk$Link" "isUp" "Z" "CircuitDesk") ∈ lw_tbl := lw_at lw_m5 55 rfl
theorem q1123 : (Jvm.Cond.laysFinal "CircuitDesk$Link" "CircuitDesk$Link" "one" "I") ∈ lw_all := lw_g (lw_at lw_m5 56 rfl) rfl
theorem q1124 : (Jvm.Cond.soleField "CircuitDesk$Link" "one") ∈ lw_all := lw_g (lw_at lw_m5 57 rfl) rfl
theorem q1125 : (Jvm.Cond.laysFinal "CircuitDesk$Link" "CircuitDesk$Link" "other" "I") ∈ lw_all := lw_g (lw_at lw_m5 58 rfl) rfl
theorem q1126 : (Jvm.Cond.soleField "CircuitDesk$Link" "other") ∈ lw_all := lw_g (lw_at lw_m5 59 rfl) rfl
theorem q1127 : (Jvm.Cond.laysFinal "CircuitDesk$Link" "CircuitDesk$Link" "capacity" "I") ∈ lw_all := lw_g (lw_at lw_m5 60 rfl) rfl
theorem q1128 : (Jvm.Cond.soleField "CircuitDesk$Link" "capacity") ∈ lw_all := lw_g (lw_at lw_m5 61 rfl) rfl
theorem q1129 : (Jvm.Cond.laysFinal "CircuitDesk$Link" "CircuitDesk$Link" "delay" "I") ∈ lw_all := lw_g (lw_at lw_m5 62 rfl) rfl
theorem q1130 : (Jvm.Cond.soleField "CircuitDesk$Link" "delay") ∈ lw_all := lw_g (lw_at lw_m5 63 rfl) rfl
theorem q1131 : (Jvm.Cond.lays "CircuitDesk$Link" "CircuitDesk$Link" "isUp" "Z") ∈ lw_all := lw_g (lw_at lw_m5 64 rfl) rfl
theorem q1132 : (Jvm.Cond.soleField "CircuitDesk$Link" "isUp") ∈ lw_all := lw_g (lw_at lw_m5 65 rfl) rfl
theorem q1133 : (Jvm.Cond.superclass "CircuitDesk$Link" "java/lang/Object") ∈ lw_all := lw_g (lw_at lw_m5 66 rfl) rfl
theorem q1134 : (Jvm.Cond.methodLink "CircuitDesk$Parser" (142 : Nat) ({ cls := "CircuitDesk$Parser", name := "circuit", desc := "()V" } : Jvm.MethodName)) ∈ lw_all := lw_g (lw_at lw_m5 67 rfl) rfl
theorem q1135 : (Jvm.Cond.privateMethod ({ cls := "CircuitDesk$Parser", name := "circuit", desc := "()V" } : Jvm.MethodName)) ∈ lw_tbl := lw_at lw_m5 68 rfl
theorem q1136 : (Jvm.Cond.instanceMethod ({ cls := "CircuitDesk$Parser", name := "circuit", desc := "()V" } : Jvm.MethodName)) ∈ lw_all := lw_g (lw_at lw_m5 69 rfl) rfl
theorem q1137 : (Jvm.Cond.code ({ cls := "CircuitDesk$Parser", name := "circuit", desc := "()V" } : Jvm.MethodName) prog_10_method_10_code (4 : Nat) (Option.none : Option Jvm.ClassFile.FieldType)) ∈ lw_all := lw_g (lw_at lw_m5 70 rfl) rfl
theorem q1138 : (Jvm.Cond.classLink "CircuitDesk$Parser" (166 : Nat) "CircuitDesk$Circuit") ∈ lw_all := lw_g (lw_at lw_m5 71 rfl) rfl
theorem q1139 : (Jvm.Cond.instantiable "CircuitDesk$Circuit" (15 : Nat)) ∈ lw_all := lw_g (lw_at lw_m5 72 rfl) rfl
theorem q1140 : (Jvm.Cond.methodLink "CircuitDesk$Parser" (168 : Nat) ({ cls := "CircuitDesk$Circuit", name := "<init>", desc := "(II)V" } : Jvm.MethodName)) ∈ lw_all := lw_g (lw_at lw_m5 73 rfl) rfl
theorem q1141 : (Jvm.Cond.instanceMethod ({ cls := "CircuitDesk$Circuit", name := "<init>", desc := "(II)V" } : Jvm.MethodName)) ∈ lw_all := lw_g (lw_at lw_m5 74 rfl) rfl
theorem q1142 : (Jvm.Cond.code ({ cls := "CircuitDesk$Circuit", name := "<init>", desc := "(II)V" } : Jvm.MethodName) prog_3_method_1_code (3 : Nat) (Option.none : Option Jvm.ClassFile.FieldType)) ∈ lw_all := lw_g (lw_at lw_m5 75 rfl) rfl
theorem q1143 : (Jvm.Cond.methodLink "CircuitDesk$Circuit" (3 : Nat) ({ cls := "java/lang/Object", name := "<init>", desc := "()V" } : Jvm.MethodName)) ∈ lw_all := lw_g (lw_at lw_m5 76 rfl) rfl
theorem q1144 : (Jvm.Cond.classLink "CircuitDesk$Circuit" (9 : Nat) "CircuitDesk$Way") ∈ lw_all := lw_g (lw_at lw_m5 77 rfl) rfl
theorem q1145 : (Jvm.Cond.methodLinkNest "CircuitDesk$Circuit" (11 : Nat) ({ cls := "CircuitDesk$Way", name := "<init>", desc := "()V" } : Jvm.MethodName) "CircuitDesk") ∈ lw_tbl := lw_at lw_m5 78 rfl
theorem q1146 : (Jvm.Cond.fieldLink "CircuitDesk$Circuit" (22 : Nat) "CircuitDesk$Circuit" "band" "I") ∈ lw_all := lw_g (lw_at lw_m5 79 rfl) rfl
theorem q1147 : (Jvm.Cond.fieldLinkNest "CircuitDesk$Net" (153 : Nat) "CircuitDesk$Circuit" "band" "I" "CircuitDesk") ∈ lw_tbl := lw_at lw_m5 80 rfl
theorem q1148 : (Jvm.Cond.fieldLinkNest "CircuitDesk" (277 : Nat) "CircuitDesk$Circuit" "band" "I" "CircuitDesk") ∈ lw_tbl := lw_at lw_m5 81 rfl
theorem q1149 : (Jvm.Cond.fieldLink "CircuitDesk$Circuit" (25 : Nat) "CircuitDesk$Circuit" "period" "I") ∈ lw_all := lw_g (lw_at lw_m5 82 rfl) rfl
theorem q1150 : (Jvm.Cond.fieldLinkNest "CircuitDesk$Net" (300 : Nat) "CircuitDesk$Circuit" "period" "I" "CircuitDesk") ∈ lw_tbl := lw_at lw_m5 83 rfl
theorem q1151 : (Jvm.Cond.fieldLinkNest "CircuitDesk" (309 : Nat) "CircuitDesk$Circuit" "period" "I" "CircuitDesk") ∈ lw_tbl := lw_at lw_m5 84 rfl
theorem q1152 : (Jvm.Cond.fieldLink "CircuitDesk$Circuit" (12 : Nat) "CircuitDesk$Circuit" "way" "LCircuitDesk$Way;") ∈ lw_all := lw_g (lw_at lw_m5 85 rfl) rfl
theorem q1153 : (Jvm.Cond.fieldLinkNest "CircuitDesk$Clearing" (27 : Nat) "CircuitDesk$Circuit" "way" "LCircuitDesk$Way;" "CircuitDesk") ∈ lw_tbl := lw_at lw_m5 86 rfl
theorem q1154 : (Jvm.Cond.fieldLinkNest "CircuitDesk$Building" (36 : Nat) "CircuitDesk$Circuit" "way" "LCircuitDesk$Way;" "CircuitDesk") ∈ lw_tbl := lw_at lw_m5 87 rfl
theorem q1155 : (Jvm.Cond.fieldLinkNest "CircuitDesk$Net" (143 : Nat) "CircuitDesk$Circuit" "way" "LCircuitDesk$Way;" "CircuitDesk") ∈ lw_tbl := lw_at lw_m5 88 rfl
theorem q1156 : (Jvm.Cond.fieldLinkNest "CircuitDesk$Parser" (169 : Nat) "CircuitDesk$Circuit" "way" "LCircuitDesk$Way;" "CircuitDesk") ∈ lw_tbl := lw_at lw_m5 89 rfl
theorem q1157 : (Jvm.Cond.fieldLinkNest "CircuitDesk" (274 : Nat) "CircuitDesk$Circuit" "way" "LCircuitDesk$Way;" "CircuitDesk") ∈ lw_tbl := lw_at lw_m5 90 rfl
theorem q1158 : (Jvm.Cond.fieldLinkNest "CircuitDesk$Building" (27 : Nat) "CircuitDesk$Circuit" "next" "LCircuitDesk$Way;" "CircuitDesk") ∈ lw_tbl := lw_at lw_m5 91 rfl
theorem q1159 : (Jvm.Cond.fieldLink "CircuitDesk$Circuit" (35 : Nat) "CircuitDesk$Circuit" "next" "LCircuitDesk$Way;") ∈ lw_all := lw_g (lw_at lw_m5 92 rfl) rfl
theorem q1160 : (Jvm.Cond.fieldLinkNest "CircuitDesk$Clearing" (40 : Nat) "CircuitDesk$Circuit" "next" "LCircuitDesk$Way;" "CircuitDesk") ∈ lw_tbl := lw_at lw_m5 93 rfl
theorem q1161 : (Jvm.Cond.fieldLinkNest "CircuitDesk$Net" (151 : Nat) "CircuitDesk$Circuit" "next" "LCircuitDesk$Way;" "CircuitDesk") ∈ lw_tbl := lw_at lw_m5 94 rfl
theorem q1162 : (Jvm.Cond.fieldLinkNest "CircuitDesk" (336 : Nat) "CircuitDesk$Circuit" "next" "LCircuitDesk$Way;" "CircuitDesk") ∈ lw_tbl := lw_at lw_m5 95 rfl
theorem q1163 : (Jvm.Cond.fieldLinkNest "CircuitDesk$Draining" (27 : Nat) "CircuitDesk$Circuit" "phase" "I" "CircuitDesk") ∈ lw_tbl := lw_at lw_m5 96 rfl
theorem q1164 : (Jvm.Cond.fieldLinkNest "CircuitDesk$Building" (43 : Nat) "CircuitDesk$Circuit" "phase" "I" "CircuitDesk") ∈ lw_tbl := lw_at lw_m5 97 rfl
theorem q1165 : (Jvm.Cond.fieldLink "CircuitDesk$Circuit" (38 : Nat) "CircuitDesk$Circuit" "phase" "I") ∈ lw_all := lw_g (lw_at lw_m5 98 rfl) rfl
theorem q1166 : (Jvm.Cond.fieldLinkNest "CircuitDesk$Clearing" (47 : Nat) "CircuitDesk$Circuit" "phase" "I" "CircuitDesk") ∈ lw_tbl := lw_at lw_m5 99 rfl
theorem q1167 : (Jvm.Cond.fieldLinkNest "CircuitDesk$Net" (315 : Nat) "CircuitDesk$Circuit" "phase" "I" "CircuitDesk") ∈ lw_tbl := lw_at lw_m5 100 rfl
theorem q1168 : (Jvm.Cond.fieldLinkNest "CircuitDesk" (312 : Nat) "CircuitDesk$Circuit" "phase" "I" "CircuitDesk") ∈ lw_tbl := lw_at lw_m5 101 rfl
theorem q1169 : (Jvm.Cond.fieldLinkNest "CircuitDesk$Building" (23 : Nat) "CircuitDesk$Circuit" "done" "I" "CircuitDesk") ∈ lw_tbl := lw_at lw_m5 102 rfl
theorem q1170 : (Jvm.Cond.fieldLinkNest "CircuitDesk$Clearing" (23 : Nat) "CircuitDesk$Circuit" "done" "I" "CircuitDesk") ∈ lw_tbl := lw_at lw_m5 103 rfl
theorem q1171 : (Jvm.Cond.fieldLinkNest "CircuitDesk$Draining" (30 : Nat) "CircuitDesk$Circuit" "done" "I" "CircuitDesk") ∈ lw_tbl := lw_at lw_m5 104 rfl
theorem q1172 : (Jvm.Cond.fieldLink "CircuitDesk$Circuit" (41 : Nat) "CircuitDesk$Circuit" "done" "I") ∈ lw_all := lw_g (lw_at lw_m5 105 rfl) rfl
theorem q1173 : (Jvm.Cond.fieldLinkNest "CircuitDesk$Net" (356 : Nat) "CircuitDesk$Circuit" "done" "I" "CircuitDesk") ∈ lw_tbl := lw_at lw_m5 106 rfl
theorem q1174 : (Jvm.Cond.fieldLinkNest "CircuitDesk" (338 : Nat) "CircuitDesk$Circuit" "done" "I" "CircuitDesk") ∈ lw_tbl := lw_at lw_m5 107 rfl
theorem q1175 : (Jvm.Cond.fieldLinkNest "CircuitDesk$Draining" (23 : Nat) "CircuitDesk$Circuit" "left" "I" "CircuitDesk") ∈ lw_tbl := lw_at lw_m5 108 rfl
theorem q1176 : (Jvm.Cond.fieldLinkNest "CircuitDesk$Building" (46 : Nat) "CircuitDesk$Circuit" "left" "I" "CircuitDesk") ∈ lw_tbl := lw_at lw_m5 109 rfl
theorem q1177 : (Jvm.Cond.fieldLink "CircuitDesk$Circuit" (44 : Nat) "CircuitDesk$Circuit" "left" "I") ∈ lw_all := lw_g (lw_at lw_m5 110 rfl) rfl
theorem q1178 : (Jvm.Cond.fieldLinkNest "CircuitDesk" (330 : Nat) "CircuitDesk$Circuit" "left" "I" "CircuitDesk") ∈ lw_tbl := lw_at lw_m5 111 rfl
theorem q1179 : (Jvm.Cond.fieldLink "CircuitDesk$Circuit" (47 : Nat) "CircuitDesk$Circuit" "held" "I") ∈ lw_all := lw_g (lw_at lw_m5 112 rfl) rfl
theorem q1180 : (Jvm.Cond.fieldLinkNest "CircuitDesk$Building" (59 : Nat) "CircuitDesk$Circuit" "held" "I" "CircuitDesk") ∈ lw_tbl := lw_at lw_m5 113 rfl
theorem q1181 : (Jvm.Cond.fieldLinkNest "CircuitDesk$Net" (306 : Nat) "CircuitDesk$Circuit" "held" "I" "CircuitDesk") ∈ lw_tbl := lw_at lw_m5 114 rfl
theorem q1182 : (Jvm.Cond.fieldLinkNest "CircuitDesk" (327 : Nat) "CircuitDesk$Circuit" "held" "I" "CircuitDesk") ∈ lw_tbl := lw_at lw_m5 115 rfl
theorem q1183 : (Jvm.Cond.fieldLink "CircuitDesk$Circuit" (50 : Nat) "CircuitDesk$Circuit" "backlog" "I") ∈ lw_all := lw_g (lw_at lw_m5 116 rfl) rfl
theorem q1184 : (Jvm.Cond.fieldLinkNest "CircuitDesk$Net" (289 : Nat) "CircuitDesk$Circuit" "backlog" "I" "CircuitDesk") ∈ lw_tbl := lw_at lw_m5 117 rfl
theorem q1185 : (Jvm.Cond.fieldLinkNest "CircuitDesk" (296 : Nat) "CircuitDesk$Circuit" "backlog" "I" "CircuitDesk") ∈ lw_tbl := lw_at lw_m5 118 rfl
theorem q1186 : (Jvm.Cond.fieldLink "CircuitDesk$Circuit" (53 : Nat) "CircuitDesk$Circuit" "sent" "I") ∈ lw_all := lw_g (lw_at lw_m5 119 rfl) rfl
theorem q1187 : (Jvm.Cond.fieldLinkNest "CircuitDesk$Net" (292 : Nat) "CircuitDesk$Circuit" "sent" "I" "CircuitDesk") ∈ lw_tbl := lw_at lw_m5 120 rfl
theorem q1188 : (Jvm.Cond.fieldLinkNest "CircuitDesk" (323 : Nat) "CircuitDesk$Circuit" "sent" "I" "CircuitDesk") ∈ lw_tbl := lw_at lw_m5 121 rfl
theorem q1189 : (Jvm.Cond.fieldLink "CircuitDesk$Circuit" (56 : Nat) "CircuitDesk$Circuit" "delivered" "I") ∈ lw_all := lw_g (lw_at lw_m5 122 rfl) rfl
theorem q1190 : (Jvm.Cond.fieldLinkNest "CircuitDesk$Net" (243 : Nat) "CircuitDesk$Circuit" "delivered" "I" "CircuitDesk") ∈ lw_tbl := lw_at lw_m5 123 rfl
theorem q1191 : (Jvm.Cond.fieldLinkNest "CircuitDesk" (324 : Nat) "CircuitDesk$Circuit" "delivered" "I" "CircuitDesk") ∈ lw_tbl := lw_at lw_m5 124 rfl
theorem q1192 : (Jvm.Cond.fieldLink "CircuitDesk$Circuit" (59 : Nat) "CircuitDesk$Circuit" "lost" "I") ∈ lw_all := lw_g (lw_at lw_m5 125 rfl) rfl
theorem q1193 : (Jvm.Cond.fieldLinkNest "CircuitDesk$Net" (221 : Nat) "CircuitDesk$Circuit" "lost" "I" "CircuitDesk") ∈ lw_tbl := lw_at lw_m5 126 rfl
theorem q1194 : (Jvm.Cond.fieldLinkNest "CircuitDesk" (325 : Nat) "CircuitDesk$Circuit" "lost" "I" "CircuitDesk") ∈ lw_tbl := lw_at lw_m5 127 rfl
theorem q1195 : (Jvm.Cond.fieldLink "CircuitDesk$Circuit" (62 : Nat) "CircuitDesk$Circuit" "late" "I") ∈ lw_all := lw_g (lw_at lw_m5 128 rfl) rfl
theorem q1196 : (Jvm.Cond.fieldLinkNest "CircuitDesk$Net" (256 : Nat) "CircuitDesk$Circuit" "late" "I" "CircuitDesk") ∈ lw_tbl := lw_at lw_m5 129 rfl
theorem q1197 : (Jvm.Cond.fieldLinkNest "CircuitDesk" (326 : Nat) "CircuitDesk$Circuit" "late" "I" "CircuitDesk") ∈ lw_tbl := lw_at lw_m5 130 rfl
theorem q1198 : (Jvm.Cond.fieldLink "CircuitDesk$Circuit" (18 : Nat) "CircuitDesk$Circuit" "latest" "I") ∈ lw_all := lw_g (lw_at lw_m5 131 rfl) rfl
theorem q1199 : (Jvm.Cond.fieldLinkNest "CircuitDesk$Net" (253 : Nat) "CircuitDesk$Circuit" "latest" "I" "CircuitDesk") ∈ lw_tbl := lw_at lw_m5 132 rfl
theorem q1200 : (Jvm.Cond.fieldLink "CircuitDesk$Circuit" (65 : Nat) "CircuitDesk$Circuit" "ticks" "I") ∈ lw_all := lw_g (lw_at lw_m5 133 rfl) rfl
theorem q1201 : (Jvm.Cond.fieldLinkNest "CircuitDesk$Net" (244 : Nat) "CircuitDesk$Circuit" "ticks" "I" "CircuitDesk") ∈ lw_tbl := lw_at lw_m5 134 rfl
theorem q1202 : (Jvm.Cond.fieldLinkNest "CircuitDesk" (373 : Nat) "CircuitDesk$Circuit" "ticks" "I" "CircuitDesk") ∈ lw_tbl := lw_at lw_m5 135 rfl
theorem q1203 : (Jvm.Cond.laysFinal "CircuitDesk$Circuit" "CircuitDesk$Circuit" "band" "I") ∈ lw_all := lw_g (lw_at lw_m5 136 rfl) rfl
theorem q1204 : (Jvm.Cond.soleField "CircuitDesk$Circuit" "band") ∈ lw_all := lw_g (lw_at lw_m5 137 rfl) rfl
theorem q1205 : (Jvm.Cond.laysFinal "CircuitDesk$Circuit" "CircuitDesk$Circuit" "period" "I") ∈ lw_all := lw_g (lw_at lw_m5 138 rfl) rfl
theorem q1206 : (Jvm.Cond.soleField "CircuitDesk$Circuit" "period") ∈ lw_all := lw_g (lw_at lw_m5 139 rfl) rfl
theorem q1207 : (Jvm.Cond.lays "CircuitDesk$Circuit" "CircuitDesk$Circuit" "way" "LCircuitDesk$Way;") ∈ lw_all := lw_g (lw_at lw_m5 140 rfl) rfl
theorem q1208 : (Jvm.Cond.soleField "CircuitDesk$Circuit" "way") ∈ lw_all := lw_g (lw_at lw_m5 141 rfl) rfl
theorem q1209 : (Jvm.Cond.lays "CircuitDesk$Circuit" "CircuitDesk$Circuit" "next" "LCircuitDesk$Way;") ∈ lw_all := lw_g (lw_at lw_m5 142 rfl) rfl
theorem q1210 : (Jvm.Cond.soleField "CircuitDesk$Circuit" "next") ∈ lw_all := lw_g (lw_at lw_m5 143 rfl) rfl
theorem q1211 : (Jvm.Cond.lays "CircuitDesk$Circuit" "CircuitDesk$Circuit" "phase" "I") ∈ lw_all := lw_g (lw_at lw_m5 144 rfl) rfl
theorem q1212 : (Jvm.Cond.soleField "CircuitDesk$Circuit" "phase") ∈ lw_all := lw_g (lw_at lw_m5 145 rfl) rfl
theorem q1213 : (Jvm.Cond.lays "CircuitDesk$Circuit" "CircuitDesk$Circuit" "done" "I") ∈ lw_all := lw_g (lw_at lw_m5 146 rfl) rfl
theorem q1214 : (Jvm.Cond.soleField "CircuitDesk$Circuit" "done") ∈ lw_all := lw_g (lw_at lw_m5 147 rfl) rfl
theorem q1215 : (Jvm.Cond.lays "CircuitDesk$Circuit" "CircuitDesk$Circuit" "left" "I") ∈ lw_all := lw_g (lw_at lw_m5 148 rfl) rfl
theorem q1216 : (Jvm.Cond.soleField "CircuitDesk$Circuit" "left") ∈ lw_all := lw_g (lw_at lw_m5 149 rfl) rfl
theorem q1217 : (Jvm.Cond.lays "CircuitDesk$Circuit" "CircuitDesk$Circuit" "held" "I") ∈ lw_all := lw_g (lw_at lw_m5 150 rfl) rfl
theorem q1218 : (Jvm.Cond.soleField "CircuitDesk$Circuit" "held") ∈ lw_all := lw_g (lw_at lw_m5 151 rfl) rfl
theorem q1219 : (Jvm.Cond.lays "CircuitDesk$Circuit" "CircuitDesk$Circuit" "backlog" "I") ∈ lw_all := lw_g (lw_at lw_m5 152 rfl) rfl
theorem q1220 : (Jvm.Cond.soleField "CircuitDesk$Circuit" "backlog") ∈ lw_all := lw_g (lw_at lw_m5 153 rfl) rfl
theorem q1221 : (Jvm.Cond.lays "CircuitDesk$Circuit" "CircuitDesk$Circuit" "sent" "I") ∈ lw_all := lw_g (lw_at lw_m5 154 rfl) rfl
theorem q1222 : (Jvm.Cond.soleField "CircuitDesk$Circuit" "sent") ∈ lw_all := lw_g (lw_at lw_m5 155 rfl) rfl
theorem q1223 : (Jvm.Cond.lays "CircuitDesk$Circuit" "CircuitDesk$Circuit" "delivered" "I") ∈ lw_all := lw_g (lw_at lw_m5 156 rfl) rfl
theorem q1224 : (Jvm.Cond.soleField "CircuitDesk$Circuit" "delivered") ∈ lw_all := lw_g (lw_at lw_m5 157 rfl) rfl
theorem q1225 : (Jvm.Cond.lays "CircuitDesk$Circuit" "CircuitDesk$Circuit" "lost" "I") ∈ lw_all := lw_g (lw_at lw_m5 158 rfl) rfl
theorem q1226 : (Jvm.Cond.soleField "CircuitDesk$Circuit" "lost") ∈ lw_all := lw_g (lw_at lw_m5 159 rfl) rfl
theorem q1227 : (Jvm.Cond.lays "CircuitDesk$Circuit" "CircuitDesk$Circuit" "late" "I") ∈ lw_all := lw_g (lw_at lw_m5 160 rfl) rfl
theorem q1228 : (Jvm.Cond.soleField "CircuitDesk$Circuit" "late") ∈ lw_all := lw_g (lw_at lw_m5 161 rfl) rfl
theorem q1229 : (Jvm.Cond.lays "CircuitDesk$Circuit" "CircuitDesk$Circuit" "latest" "I") ∈ lw_all := lw_g (lw_at lw_m5 162 rfl) rfl
theorem q1230 : (Jvm.Cond.soleField "CircuitDesk$Circuit" "latest") ∈ lw_all := lw_g (lw_at lw_m5 163 rfl) rfl
theorem q1231 : (Jvm.Cond.lays "CircuitDesk$Circuit" "CircuitDesk$Circuit" "ticks" "I") ∈ lw_all := lw_g (lw_at lw_m5 164 rfl) rfl
theorem q1232 : (Jvm.Cond.soleField "CircuitDesk$Circuit" "ticks") ∈ lw_all := lw_g (lw_at lw_m5 165 rfl) rfl
theorem q1233 : (Jvm.Cond.superclass "CircuitDesk$Circuit" "java/lang/Object") ∈ lw_all := lw_g (lw_at lw_m5 166 rfl) rfl
theorem q1234 : (Jvm.Cond.methodLink "CircuitDesk$Parser" (173 : Nat) ({ cls := "CircuitDesk$Way", name := "add", desc := "(I)V" } : Jvm.MethodName)) ∈ lw_all := lw_g (lw_at lw_m5 167 rfl) rfl
theorem q1235 : (Jvm.Cond.methodLink "CircuitDesk$Parser" (179 : Nat) ({ cls := "CircuitDesk$Way", name := "has", desc := "(I)Z" } : Jvm.MethodName)) ∈ lw_all := lw_g (lw_at lw_m5 168 rfl) rfl
theorem q1236 : (Jvm.Cond.methodLink "CircuitDesk$Parser" (183 : Nat) ({ cls := "CircuitDesk$Way", name := "last", desc := "()I" } : Jvm.MethodName)) ∈ lw_all := lw_g (lw_at lw_m5 169 rfl) rfl
theorem q1237 : (Jvm.Cond.methodLink "CircuitDesk$Parser" (186 : Nat) ({ cls := "CircuitDesk$Net", name := "linkOf", desc := "(II)I" } : Jvm.MethodName)) ∈ lw_all := lw_g (lw_at lw_m5 170 rfl) rfl
theorem q1238 : (Jvm.Cond.methodLink "CircuitDesk$Parser" (189 : Nat) ({ cls := "CircuitDesk$Net", name := "hasRoom", desc := "(III)Z" } : Jvm.MethodName)) ∈ lw_all := lw_g (lw_at lw_m5 171 rfl) rfl
theorem q1239 : (Jvm.Cond.methodLink "CircuitDesk$Parser" (193 : Nat) ({ cls := "CircuitDesk$Net", name := "label", desc := "(LCircuitDesk$Way;IIZ)Z" } : Jvm.MethodName)) ∈ lw_all := lw_g (lw_at lw_m5 172 rfl) rfl
theorem q1240 : (Jvm.Cond.instanceMethod ({ cls := "CircuitDesk$Net", name := "label", desc := "(LCircuitDesk$Way;IIZ)Z" } : Jvm.MethodName)) ∈ lw_all := lw_g (lw_at lw_m5 173 rfl) rfl
theorem q1241 : (Jvm.Cond.selects "CircuitDesk$Net" ({ cls := "CircuitDesk$Net", name := "label", desc := "(LCircuitDesk$Way;IIZ)Z" } : Jvm.MethodName) ({ cls := "CircuitDesk$Net", name := "label", desc := "(LCircuitDesk$Way;IIZ)Z" } : Jvm.MethodName)) ∈ lw_all := lw_g (lw_at lw_m5 174 rfl) rfl
theorem q1242 : (Jvm.Cond.code ({ cls := "CircuitDesk$Net", name := "label", desc := "(LCircuitDesk$Way;IIZ)Z" } : Jvm.MethodName) prog_7_method_13_code (10 : Nat) (Option.some Jvm.ClassFile.FieldType.boolean)) ∈ lw_all := lw_g (lw_at lw_m5 175 rfl) rfl
theorem q1243 : (Jvm.Cond.classLink "CircuitDesk$Net" (62 : Nat) "CircuitDesk$Node") ∈ lw_all := lw_g (lw_at lw_m5 176 rfl) rfl
theorem q1244 : (Jvm.Cond.methodLink "CircuitDesk$Net" (177 : Nat) ({ cls := "CircuitDesk$Node", name := "free", desc := "()I" } : Jvm.MethodName)) ∈ lw_all := lw_g (lw_at lw_m5 177 rfl) rfl
theorem q1245 : (Jvm.Cond.instanceMethod ({ cls := "CircuitDesk$Node", name := "free", desc := "()I" } : Jvm.MethodName)) ∈ lw_all := lw_g (lw_at lw_m5 178 rfl) rfl
theorem q1246 : (Jvm.Cond.selects "CircuitDesk$Node" ({ cls := "CircuitDesk$Node", name := "free", desc := "()I" } : Jvm.MethodName) ({ cls := "CircuitDesk$Node", name := "free", desc := "()I" } : Jvm.MethodName)) ∈ lw_all := lw_g (lw_at lw_m5 179 rfl) rfl
theorem q1247 : (Jvm.Cond.code ({ cls := "CircuitDesk$Node", name := "free", desc := "()I" } : Jvm.MethodName) prog_8_method_4_code (1 : Nat) (Option.some Jvm.ClassFile.FieldType.int)) ∈ lw_all := lw_g (lw_at lw_m5 180 rfl) rfl
theorem q1248 : (Jvm.Cond.methodLink "CircuitDesk$Node" (39 : Nat) ({ cls := "CircuitDesk$Node", name := "heldBy", desc := "(I)I" } : Jvm.MethodName)) ∈ lw_all := lw_g (lw_at lw_m5 181 rfl) rfl
theorem q1249 : (Jvm.Cond.instanceMethod ({ cls := "CircuitDesk$Node", name := "heldBy", desc := "(I)I" } : Jvm.MethodName)) ∈ lw_all := lw_g (lw_at lw_m5 182 rfl) rfl
theorem q1250 : (Jvm.Cond.selects "CircuitDesk$Node" ({ cls := "CircuitDesk$Node", name := "heldBy", desc := "(I)I" } : Jvm.MethodName) ({ cls := "CircuitDesk$Node", name := "heldBy", desc := "(I)I" } : Jvm.MethodName)) ∈ lw_all := lw_g (lw_at lw_m5 183 rfl) rfl
theorem q1251 : (Jvm.Cond.code ({ cls := "CircuitDesk$Node", name := "heldBy", desc := "(I)I" } : Jvm.MethodName) prog_8_method_3_code (4 : Nat) (Option.some Jvm.ClassFile.FieldType.int)) ∈ lw_all := lw_g (lw_at lw_m5 184 rfl) rfl
theorem q1252 : (Jvm.Cond.methodLink "CircuitDesk$Net" (180 : Nat) ({ cls := "CircuitDesk$Net", name := "borrowedBy", desc := "(I)I" } : Jvm.MethodName)) ∈ lw_all := lw_g (lw_at lw_m5 185 rfl) rfl
theorem q1253 : (Jvm.Cond.instanceMethod ({ cls := "CircuitDesk$Net", name := "borrowedBy", desc := "(I)I" } : Jvm.MethodName)) ∈ lw_all := lw_g (lw_at lw_m5 186 rfl) rfl
theorem q1254 : (Jvm.Cond.selects "CircuitDesk$Net" ({ cls := "CircuitDesk$Net", name := "borrowedBy", desc := "(I)I" } : Jvm.MethodName) ({ cls := "CircuitDesk$Net", name := "borrowedBy", desc := "(I)I" } : Jvm.MethodName)) ∈ lw_all := lw_g (lw_at lw_m5 187 rfl) rfl
theorem q1255 : (Jvm.Cond.code ({ cls := "CircuitDesk$Net", name := "borrowedBy", desc := "(I)I" } : Jvm.MethodName) prog_7_method_11_code (4 : Nat) (Option.some Jvm.ClassFile.FieldType.int)) ∈ lw_all := lw_g (lw_at lw_m5 188 rfl) rfl
theorem q1256 : (Jvm.Cond.methodLink "CircuitDesk$Net" (170 : Nat) ({ cls := "CircuitDesk$Node", name := "heldBy", desc := "(I)I" } : Jvm.MethodName)) ∈ lw_all := lw_g (lw_at lw_m5 189 rfl) rfl
theorem q1257 : (Jvm.Cond.methodLink "CircuitDesk$Net" (183 : Nat) ({ cls := "CircuitDesk$Net", name := "lenderTo", desc := "(I)I" } : Jvm.MethodName)) ∈ lw_all := lw_g (lw_at lw_m5 190 rfl) rfl
theorem q1258 : (Jvm.Cond.privateMethod ({ cls := "CircuitDesk$Net", name := "lenderTo", desc := "(I)I" } : Jvm.MethodName)) ∈ lw_tbl := lw_at lw_m5 191 rfl
theorem q1259 : (Jvm.Cond.instanceMethod ({ cls := "CircuitDesk$Net", name := "lenderTo", desc := "(I)I" } : Jvm.MethodName)) ∈ lw_all := lw_g (lw_at lw_m5 192 rfl) rfl
theorem q1260 : (Jvm.Cond.code ({ cls := "CircuitDesk$Net", name := "lenderTo", desc := "(I)I" } : Jvm.MethodName) prog_7_method_12_code (5 : Nat) (Option.some Jvm.ClassFile.FieldType.int)) ∈ lw_all := lw_g (lw_at lw_m5 193 rfl) rfl
theorem q1261 : (Jvm.Cond.methodLink "CircuitDesk$Net" (174 : Nat) ({ cls := "CircuitDesk$Net", name := "areJoined", desc := "(II)Z" } : Jvm.MethodName)) ∈ lw_all := lw_g (lw_at lw_m5 194 rfl) rfl
theorem q1262 : (Jvm.Cond.methodLink "CircuitDesk$Net" (186 : Nat) ({ cls := "CircuitDesk$Node", name := "lowestFree", desc := "()I" } : Jvm.MethodName)) ∈ lw_all := lw_g (lw_at lw_m5 195 rfl) rfl
theorem q1263 : (Jvm.Cond.instanceMethod ({ cls := "CircuitDesk$Node", name := "lowestFree", desc := "()I" } : Jvm.MethodName)) ∈ lw_all := lw_g (lw_at lw_m5 196 rfl) rfl
theorem q1264 : (Jvm.Cond.selects "CircuitDesk$Node" ({ cls := "CircuitDesk$Node", name := "lowestFree", desc := "()I" } : Jvm.MethodName) ({ cls := "CircuitDesk$Node", name := "lowestFree", desc := "()I" } : Jvm.MethodName)) ∈ lw_all := lw_g (lw_at lw_m5 197 rfl) rfl
theorem q1265 : (Jvm.Cond.code ({ cls := "CircuitDesk$Node", name := "lowestFree", desc := "()I" } : Jvm.MethodName) prog_8_method_5_code (2 : Nat) (Option.some Jvm.ClassFile.FieldType.int)) ∈ lw_all := lw_g (lw_at lw_m5 198 rfl) rfl
theorem q1266 : (Jvm.Cond.methodLink "CircuitDesk$Net" (189 : Nat) ({ cls := "CircuitDesk$Node", name := "highestFree", desc := "()I" } : Jvm.MethodName)) ∈ lw_all := lw_g (lw_at lw_m5 199 rfl) rfl
theorem q1267 : (Jvm.Cond.instanceMethod ({ cls := "CircuitDesk$Node", name := "highestFree", desc := "()I" } : Jvm.MethodName)) ∈ lw_all := lw_g (lw_at lw_m5 200 rfl) rfl
theorem q1268 : (Jvm.Cond.selects "CircuitDesk$Node" ({ cls := "CircuitDesk$Node", name := "highestFree", desc := "()I" } : Jvm.MethodName) ({ cls := "CircuitDesk$Node", name := "highestFree", desc := "()I" } : Jvm.MethodName)) ∈ lw_all := lw_g (lw_at lw_m5 201 rfl) rfl
theorem q1269 : (Jvm.Cond.code ({ cls := "CircuitDesk$Node", name := "highestFree", desc := "()I" } : Jvm.MethodName) prog_8_method_6_code (2 : Nat) (Option.some Jvm.ClassFile.FieldType.int)) ∈ lw_all := lw_g (lw_at lw_m5 202 rfl) rfl
theorem q1270 : (Jvm.Cond.methodLink "CircuitDesk$Net" (192 : Nat) ({ cls := "CircuitDesk$Node", name := "give", desc := "(IIIZ)V" } : Jvm.MethodName)) ∈ lw_all := lw_g (lw_at lw_m5 203 rfl) rfl
theorem q1271 : (Jvm.Cond.instanceMethod ({ cls := "CircuitDesk$Node", name := "give", desc := "(IIIZ)V" } : Jvm.MethodName)) ∈ lw_all := lw_g (lw_at lw_m5 204 rfl) rfl
theorem q1272 : (Jvm.Cond.selects "CircuitDesk$Node" ({ cls := "CircuitDesk$Node", name := "give", desc := "(IIIZ)V" } : Jvm.MethodName) ({ cls := "CircuitDesk$Node", name := "give", desc := "(IIIZ)V" } : Jvm.MethodName)) ∈ lw_all := lw_g (lw_at lw_m5 205 rfl) rfl
theorem q1273 : (Jvm.Cond.code ({ cls := "CircuitDesk$Node", name := "give", desc := "(IIIZ)V" } : Jvm.MethodName) prog_8_method_7_code (5 : Nat) (Option.none : Option Jvm.ClassFile.FieldType)) ∈ lw_all := lw_g (lw_at lw_m5 206 rfl) rfl
theorem q1274 : (Jvm.Cond.methodLink "CircuitDesk$Parser" (197 : Nat) ({ cls := "CircuitDesk$Net", name := "make", desc := "(LCircuitDesk$Way;I)V" } : Jvm.MethodName)) ∈ lw_all := lw_g (lw_at lw_m5 207 rfl) rfl
theorem q1275 : (Jvm.Cond.instanceMethod ({ cls := "CircuitDesk$Net", name := "make", desc := "(LCircuitDesk$Way;I)V" } : Jvm.MethodName)) ∈ lw_all := lw_g (lw_at lw_m5 208 rfl) rfl
theorem q1276 : (Jvm.Cond.selects "CircuitDesk$Net" ({ cls := "CircuitDesk$Net", name := "make", desc := "(LCircuitDesk$Way;I)V" } : Jvm.MethodName) ({ cls := "CircuitDesk$Net", name := "make", desc := "(LCircuitDesk$Way;I)V" } : Jvm.MethodName)) ∈ lw_all := lw_g (lw_at lw_m5 209 rfl) rfl
theorem q1277 : (Jvm.Cond.code ({ cls := "CircuitDesk$Net", name := "make", desc := "(LCircuitDesk$Way;I)V" } : Jvm.MethodName) prog_7_method_14_code (3 : Nat) (Option.none : Option Jvm.ClassFile.FieldType)) ∈ lw_all := lw_g (lw_at lw_m5 210 rfl) rfl
theorem q1278 : (Jvm.Cond.methodLinkNest "CircuitDesk$Parser" (148 : Nat) ({ cls := "CircuitDesk", name := "mostOf", desc := "(I)I" } : Jvm.MethodName) "CircuitDesk") ∈ lw_tbl := lw_at lw_m5 211 rfl
theorem q1279 : (Jvm.Cond.static ({ cls := "CircuitDesk", name := "mostOf", desc := "(I)I" } : Jvm.MethodName)) ∈ lw_all := lw_g (lw_at lw_m5 212 rfl) rfl
theorem q1280 : (Jvm.Cond.code ({ cls := "CircuitDesk", name := "mostOf", desc := "(I)I" } : Jvm.MethodName) prog_1_method_13_code (1 : Nat) (Option.some Jvm.ClassFile.FieldType.int)) ∈ lw_all := lw_g (lw_at lw_m5 213 rfl) rfl
theorem q1281 : (Jvm.Cond.stringRef "CircuitDesk$Parser" (101 : Nat) ";") ∈ lw_tbl := lw_at lw_m5 214 rfl
theorem q1282 : (Jvm.Cond.methodLink "CircuitDeskLaw" (131 : Nat) ({ cls := "CircuitDesk", name := "errorCode", desc := "()I" } : Jvm.MethodName)) ∈ lw_all := lw_g (lw_at lw_m5 215 rfl) rfl
theorem q1283 : (Jvm.Cond.instanceMethod ({ cls := "CircuitDesk", name := "errorCode", desc := "()I" } : Jvm.MethodName)) ∈ lw_all := lw_g (lw_at lw_m5 216 rfl) rfl
theorem q1284 : (Jvm.Cond.selects "CircuitDesk" ({ cls := "CircuitDesk", name := "errorCode", desc := "()I" } : Jvm.MethodName) ({ cls := "CircuitDesk", name := "errorCode", desc := "()I" } : Jvm.MethodName)) ∈ lw_all := lw_g (lw_at lw_m5 217 rfl) rfl
theorem q1285 : (Jvm.Cond.code ({ cls := "CircuitDesk", name := "errorCode", desc := "()I" } : Jvm.MethodName) prog_1_method_50_code (1 : Nat) (Option.some Jvm.ClassFile.FieldType.int)) ∈ lw_all := lw_g (lw_at lw_m5 218 rfl) rfl
theorem q1286 : (Jvm.Cond.methodLink "CircuitDeskLaw" (135 : Nat) ({ cls := "CircuitDesk", name := "errorPosition", desc := "()I" } : Jvm.MethodName)) ∈ lw_all := lw_g (lw_at lw_m5 219 rfl) rfl
theorem q1287 : (Jvm.Cond.instanceMethod ({ cls := "CircuitDesk", name := "errorPosition", desc := "()I" } : Jvm.MethodName)) ∈ lw_all := lw_g (lw_at lw_m5 220 rfl) rfl
theorem q1288 : (Jvm.Cond.selects "CircuitDesk" ({ cls := "CircuitDesk", name := "errorPosition", desc := "()I" } : Jvm.MethodName) ({ cls := "CircuitDesk", name := "errorPosition", desc := "()I" } : Jvm.MethodName)) ∈ lw_all := lw_g (lw_at lw_m5 221 rfl) rfl
theorem q1289 : (Jvm.Cond.code ({ cls := "CircuitDesk", name := "errorPosition", desc := "()I" } : Jvm.MethodName) prog_1_method_51_code (1 : Nat) (Option.some Jvm.ClassFile.FieldType.int)) ∈ lw_all := lw_g (lw_at lw_m5 222 rfl) rfl
theorem q1290 : (Jvm.Cond.methodLink "CircuitDeskLaw" (114 : Nat) ({ cls := "CircuitDeskLaw", name := "appendText", desc := "(LCircuitDesk;I[J)I" } : Jvm.MethodName)) ∈ lw_all := lw_g (lw_at lw_m5 223 rfl) rfl
theorem q1291 : (Jvm.Cond.static ({ cls := "CircuitDeskLaw", name := "appendText", desc := "(LCircuitDesk;I[J)I" } : Jvm.MethodName)) ∈ lw_all := lw_g (lw_at lw_m5 224 rfl) rfl
theorem q1292 : (Jvm.Cond.codeWith ({ cls := "CircuitDeskLaw", name := "appendText", desc := "(LCircuitDesk;I[J)I" } : Jvm.MethodName) method_3_code (4 : Nat) (Option.some Jvm.ClassFile.FieldType.int) [((0 : Nat), (9 : Nat), (12 : Nat), (13 : Nat))]) ∈ lw_all := lw_g (lw_at lw_m5 225 rfl) rfl
theorem q1293 : (Jvm.Cond.classLink "CircuitDeskLaw" (13 : Nat) "java/lang/IllegalStateException") ∈ lw_all := lw_g (lw_at lw_m5 226 rfl) rfl
theorem q1294 : (Jvm.Cond.methodLink "CircuitDeskLaw" (7 : Nat) ({ cls := "CircuitDesk", name := "appendText", desc := "(I)I" } : Jvm.MethodName)) ∈ lw_all := lw_g (lw_at lw_m5 227 rfl) rfl
theorem q1295 : (Jvm.Cond.instanceMethod ({ cls := "CircuitDesk", name := "appendText", desc := "(I)I" } : Jvm.MethodName)) ∈ lw_all := lw_g (lw_at lw_m5 228 rfl) rfl
theorem q1296 : (Jvm.Cond.selects "CircuitDesk" ({ cls := "CircuitDesk", name := "appendText", desc := "(I)I" } : Jvm.MethodName) ({ cls := "CircuitDesk", name := "appendText", desc := "(I)I" } : Jvm.MethodName)) ∈ lw_all := lw_g (lw_at lw_m5 229 rfl) rfl
theorem q1297 : (Jvm.Cond.code ({ cls := "CircuitDesk", name := "appendText", desc := "(I)I" } : Jvm.MethodName) prog_1_method_47_code (3 : Nat) (Option.some Jvm.ClassFile.FieldType.int)) ∈ lw_all := lw_g (lw_at lw_m5 230 rfl) rfl
theorem q1298 : (Jvm.Cond.methodLink "CircuitDesk" (83 : Nat) ({ cls := "CircuitDesk", name := "checkState", desc := "(Z)V" } : Jvm.MethodName)) ∈ lw_all := lw_g (lw_at lw_m5 231 rfl) rfl
theorem q1299 : (Jvm.Cond.static ({ cls := "CircuitDesk", name := "checkState", desc := "(Z)V" } : Jvm.MethodName)) ∈ lw_all := lw_g (lw_at lw_m5 232 rfl) rfl
theorem q1300 : (Jvm.Cond.code ({ cls := "CircuitDesk", name := "checkState", desc := "(Z)V" } : Jvm.MethodName) prog_1_method_4_code (1 : Nat) (Option.none : Option Jvm.ClassFile.FieldType)) ∈ lw_all := lw_g (lw_at lw_m5 233 rfl) rfl
theorem q1301 : (Jvm.Cond.classLink "CircuitDesk" (10 : Nat) "java/lang/IllegalStateException") ∈ lw_all := lw_g (lw_at lw_m5 234 rfl) rfl
theorem q1302 : (Jvm.Cond.instantiable "java/lang/IllegalStateException" (6 : Nat)) ∈ lw_all := lw_g (lw_at lw_m5 235 rfl) rfl
theorem q1303 : (Jvm.Cond.castable "java/lang/IllegalStateException" "java/lang/IllegalStateException") ∈ lw_tbl := lw_at lw_m5 236 rfl
theorem q1304 : (Jvm.Cond.selects "java/lang/IllegalStateException" ({ cls := "java/lang/Throwable", name := "fillInStackTrace", desc := "(I)Ljava/lang/Throwable;" } : Jvm.MethodName) ({ cls := "java/lang/Throwable", name := "fillInStackTrace", desc := "(I)Ljava/lang/Throwable;" } : Jvm.MethodName)) ∈ lw_all := lw_g (lw_at lw_m5 237 rfl) rfl
theorem q1305 : (Jvm.Cond.lays "java/lang/IllegalStateException" "java/lang/Throwable" "cause" "Ljava/lang/Throwable;") ∈ lw_all := lw_g (lw_at lw_m5 238 rfl) rfl
theorem q1306 : (Jvm.Cond.lays "java/lang/IllegalStateException" "java/lang/Throwable" "stackTrace" "[Ljava/lang/StackTraceElement;") ∈ lw_all := lw_g (lw_at lw_m5 239 rfl) rfl
theorem q1307 : (Jvm.Cond.lays "java/lang/IllegalStateException" "java/lang/Throwable" "suppressedExceptions" "Ljava/util/List;") ∈ lw_all := lw_g (lw_at lw_m6 0 rfl) rfl
theorem q1308 : (Jvm.Cond.lays "java/lang/IllegalStateException" "java/lang/Throwable" "detailMessage" "Ljava/lang/String;") ∈ lw_all := lw_g (lw_at lw_m6 1 rfl) rfl
theorem q1309 : (Jvm.Cond.lays "java/lang/IllegalStateException" "java/lang/Throwable" "backtrace" "Ljava/lang/Object;") ∈ lw_all := lw_g (lw_at lw_m6 2 rfl) rfl
theorem q1310 : (Jvm.Cond.methodLink "CircuitDesk" (12 : Nat) ({ cls := "java/lang/IllegalStateException", name := "<init>", desc := "()V" } : Jvm.MethodName)) ∈ lw_all := lw_g (lw_at lw_m6 3 rfl) rfl
theorem q1311 : (Jvm.Cond.instanceMethod ({ cls := "java/lang/IllegalStateException", name := "<init>", desc := "()V" } : Jvm.MethodName)) ∈ lw_all := lw_g (lw_at lw_m6 4 rfl) rfl
theorem q1312 : (Jvm.Cond.code ({ cls := "java/lang/IllegalStateException", name := "<init>", desc := "()V" } : Jvm.MethodName) prog_27_method_1_code (1 : Nat) (Option.none : Option Jvm.ClassFile.FieldType)) ∈ lw_all := lw_g (lw_at lw_m6 5 rfl) rfl
theorem q1313 : (Jvm.Cond.methodLink "java/lang/IllegalStateException" (1 : Nat) ({ cls := "java/lang/RuntimeException", name := "<init>", desc := "()V" } : Jvm.MethodName)) ∈ lw_all := lw_g (lw_at lw_m6 6 rfl) rfl
theorem q1314 : (Jvm.Cond.instanceMethod ({ cls := "java/lang/RuntimeException", name := "<init>", desc := "()V" } : Jvm.MethodName)) ∈ lw_all := lw_g (lw_at lw_m6 7 rfl) rfl
theorem q1315 : (Jvm.Cond.code ({ cls := "java/lang/RuntimeException", name := "<init>", desc := "()V" } : Jvm.MethodName) prog_33_method_1_code (1 : Nat) (Option.none : Option Jvm.ClassFile.FieldType)) ∈ lw_all := lw_g (lw_at lw_m6 8 rfl) rfl
theorem q1316 : (Jvm.Cond.methodLink "java/lang/RuntimeException" (1 : Nat) ({ cls := "java/lang/Exception", name := "<init>", desc := "()V" } : Jvm.MethodName)) ∈ lw_all := lw_g (lw_at lw_m6 9 rfl) rfl
theorem q1317 : (Jvm.Cond.instanceMethod ({ cls := "java/lang/Exception", name := "<init>", desc := "()V" } : Jvm.MethodName)) ∈ lw_all := lw_g (lw_at lw_m6 10 rfl) rfl
theorem q1318 : (Jvm.Cond.code ({ cls := "java/lang/Exception", name := "<init>", desc := "()V" } : Jvm.MethodName) prog_25_method_1_code (1 : Nat) (Option.none : Option Jvm.ClassFile.FieldType)) ∈ lw_all := lw_g (lw_at lw_m6 11 rfl) rfl
theorem q1319 : (Jvm.Cond.methodLink "java/lang/Exception" (1 : Nat) ({ cls := "java/lang/Throwable", name := "<init>", desc := "()V" } : Jvm.MethodName)) ∈ lw_all := lw_g (lw_at lw_m6 12 rfl) rfl
theorem q1320 : (Jvm.Cond.lays "java/lang/IllegalStateException" "java/lang/Throwable" "depth" "I") ∈ lw_all := lw_g (lw_at lw_m6 13 rfl) rfl
theorem q1321 : (Jvm.Cond.superclass "java/lang/IllegalStateException" "java/lang/RuntimeException") ∈ lw_all := lw_g (lw_at lw_m6 14 rfl) rfl
theorem q1322 : (Jvm.Cond.methodLink "CircuitDeskLaw" (124 : Nat) ({ cls := "CircuitDeskLaw", name := "truncateText", desc := "(LCircuitDesk;I[J)I" } : Jvm.MethodName)) ∈ lw_all := lw_g (lw_at lw_m6 15 rfl) rfl
theorem q1323 : (Jvm.Cond.static ({ cls := "CircuitDeskLaw", name := "truncateText", desc := "(LCircuitDesk;I[J)I" } : Jvm.MethodName)) ∈ lw_all := lw_g (lw_at lw_m6 16 rfl) rfl
theorem q1324 : (Jvm.Cond.codeWith ({ cls := "CircuitDeskLaw", name := "truncateText", desc := "(LCircuitDesk;I[J)I" } : Jvm.MethodName) method_4_code (4 : Nat) (Option.some Jvm.ClassFile.FieldType.int) [((0 : Nat), (9 : Nat), (12 : Nat), (18 : Nat))]) ∈ lw_all := lw_g (lw_at lw_m6 17 rfl) rfl
theorem q1325 : (Jvm.Cond.classLink "CircuitDeskLaw" (18 : Nat) "java/lang/IllegalArgumentException") ∈ lw_all := lw_g (lw_at lw_m6 18 rfl) rfl
theorem q1326 : (Jvm.Cond.methodLink "CircuitDeskLaw" (15 : Nat) ({ cls := "CircuitDesk", name := "truncateText", desc := "(I)I" } : Jvm.MethodName)) ∈ lw_all := lw_g (lw_at lw_m6 19 rfl) rfl
theorem q1327 : (Jvm.Cond.instanceMethod ({ cls := "CircuitDesk", name := "truncateText", desc := "(I)I" } : Jvm.MethodName)) ∈ lw_all := lw_g (lw_at lw_m6 20 rfl) rfl
theorem q1328 : (Jvm.Cond.selects "CircuitDesk" ({ cls := "CircuitDesk", name := "truncateText", desc := "(I)I" } : Jvm.MethodName) ({ cls := "CircuitDesk", name := "truncateText", desc := "(I)I" } : Jvm.MethodName)) ∈ lw_all := lw_g (lw_at lw_m6 21 rfl) rfl
theorem q1329 : (Jvm.Cond.code ({ cls := "CircuitDesk", name := "truncateText", desc := "(I)I" } : Jvm.MethodName) prog_1_method_48_code (2 : Nat) (Option.some Jvm.ClassFile.FieldType.int)) ∈ lw_all := lw_g (lw_at lw_m6 22 rfl) rfl
theorem q1330 : (Jvm.Cond.methodLink "CircuitDesk" (54 : Nat) ({ cls := "CircuitDesk", name := "isBetween", desc := "(JJJ)Z" } : Jvm.MethodName)) ∈ lw_all := lw_g (lw_at lw_m6 23 rfl) rfl
theorem q1331 : (Jvm.Cond.methodLink "CircuitDesk" (80 : Nat) ({ cls := "CircuitDesk", name := "checkArgument", desc := "(Z)V" } : Jvm.MethodName)) ∈ lw_all := lw_g (lw_at lw_m6 24 rfl) rfl
theorem q1332 : (Jvm.Cond.static ({ cls := "CircuitDesk", name := "checkArgument", desc := "(Z)V" } : Jvm.MethodName)) ∈ lw_all := lw_g (lw_at lw_m6 25 rfl) rfl
theorem q1333 : (Jvm.Cond.code ({ cls := "CircuitDesk", name := "checkArgument", desc := "(Z)V" } : Jvm.MethodName) prog_1_method_3_code (1 : Nat) (Option.none : Option Jvm.ClassFile.FieldType)) ∈ lw_all := lw_g (lw_at lw_m6 26 rfl) rfl
theorem q1334 : (Jvm.Cond.classLink "CircuitDesk" (7 : Nat) "java/lang/IllegalArgumentException") ∈ lw_all := lw_g (lw_at lw_m6 27 rfl) rfl
theorem q1335 : (Jvm.Cond.methodLink "CircuitDesk" (9 : Nat) ({ cls := "java/lang/IllegalArgumentException", name := "<init>", desc := "()V" } : Jvm.MethodName)) ∈ lw_all := lw_g (lw_at lw_m6 28 rfl) rfl
theorem q1336 : (Jvm.Cond.instanceMethod ({ cls := "java/lang/IllegalArgumentException", name := "<init>", desc := "()V" } : Jvm.MethodName)) ∈ lw_all := lw_g (lw_at lw_m6 29 rfl) rfl
theorem q1337 : (Jvm.Cond.code ({ cls := "java/lang/IllegalArgumentException", name := "<init>", desc := "()V" } : Jvm.MethodName) prog_26_method_1_code (1 : Nat) (Option.none : Option Jvm.ClassFile.FieldType)) ∈ lw_all := lw_g (lw_at lw_m6 30 rfl) rfl
theorem q1338 : (Jvm.Cond.methodLink "java/lang/IllegalArgumentException" (1 : Nat) ({ cls := "java/lang/RuntimeException", name := "<init>", desc := "()V" } : Jvm.MethodName)) ∈ lw_all := lw_g (lw_at lw_m6 31 rfl) rfl
theorem q1339 : (Jvm.Cond.methodLink "CircuitDeskLaw" (139 : Nat) ({ cls := "CircuitDeskLaw", name := "addNode", desc := "(LCircuitDesk;I[J)I" } : Jvm.MethodName)) ∈ lw_all := lw_g (lw_at lw_m6 32 rfl) rfl
theorem q1340 : (Jvm.Cond.static ({ cls := "CircuitDeskLaw", name := "addNode", desc := "(LCircuitDesk;I[J)I" } : Jvm.MethodName)) ∈ lw_all := lw_g (lw_at lw_m6 33 rfl) rfl
theorem q1341 : (Jvm.Cond.codeWith ({ cls := "CircuitDeskLaw", name := "addNode", desc := "(LCircuitDesk;I[J)I" } : Jvm.MethodName) method_5_code (4 : Nat) (Option.some Jvm.ClassFile.FieldType.int) [((0 : Nat), (9 : Nat), (12 : Nat), (18 : Nat)), ((0 : Nat), (9 : Nat), (15 : Nat), (13 : Nat))]) ∈ lw_all := lw_g (lw_at lw_m6 34 rfl) rfl
theorem q1342 : (Jvm.Cond.methodLink "CircuitDeskLaw" (20 : Nat) ({ cls := "CircuitDesk", name := "addNode", desc := "(I)I" } : Jvm.MethodName)) ∈ lw_all := lw_g (lw_at lw_m6 35 rfl) rfl
theorem q1343 : (Jvm.Cond.instanceMethod ({ cls := "CircuitDesk", name := "addNode", desc := "(I)I" } : Jvm.MethodName)) ∈ lw_all := lw_g (lw_at lw_m6 36 rfl) rfl
theorem q1344 : (Jvm.Cond.selects "CircuitDesk" ({ cls := "CircuitDesk", name := "addNode", desc := "(I)I" } : Jvm.MethodName) ({ cls := "CircuitDesk", name := "addNode", desc := "(I)I" } : Jvm.MethodName)) ∈ lw_all := lw_g (lw_at lw_m6 37 rfl) rfl
theorem q1345 : (Jvm.Cond.code ({ cls := "CircuitDesk", name := "addNode", desc := "(I)I" } : Jvm.MethodName) prog_1_method_9_code (2 : Nat) (Option.some Jvm.ClassFile.FieldType.int)) ∈ lw_all := lw_g (lw_at lw_m6 38 rfl) rfl
theorem q1346 : (Jvm.Cond.constantLong "CircuitDesk" (78 : Nat) (12 : Int64)) ∈ lw_all := lw_g (lw_at lw_m6 39 rfl) rfl
theorem q1347 : (Jvm.Cond.classLink "CircuitDesk" (66 : Nat) "CircuitDesk$Node") ∈ lw_all := lw_g (lw_at lw_m6 40 rfl) rfl
theorem q1348 : (Jvm.Cond.methodLink "CircuitDesk" (86 : Nat) ({ cls := "CircuitDesk$Node", name := "<init>", desc := "(I)V" } : Jvm.MethodName)) ∈ lw_all := lw_g (lw_at lw_m6 41 rfl) rfl
theorem q1349 : (Jvm.Cond.methodLink "CircuitDesk" (89 : Nat) ({ cls := "java/util/ArrayList", name := "add", desc := "(Ljava/lang/Object;)Z" } : Jvm.MethodName)) ∈ lw_all := lw_g (lw_at lw_m6 42 rfl) rfl
theorem q1350 : (Jvm.Cond.methodLink "CircuitDeskLaw" (142 : Nat) ({ cls := "CircuitDeskLaw", name := "addLink", desc := "(LCircuitDesk;IIII[J)I" } : Jvm.MethodName)) ∈ lw_all := lw_g (lw_at lw_m6 43 rfl) rfl
theorem q1351 : (Jvm.Cond.static ({ cls := "CircuitDeskLaw", name := "addLink", desc := "(LCircuitDesk;IIII[J)I" } : Jvm.MethodName)) ∈ lw_all := lw_g (lw_at lw_m6 44 rfl) rfl
theorem q1352 : (Jvm.Cond.codeWith ({ cls := "CircuitDeskLaw", name := "addLink", desc := "(LCircuitDesk;IIII[J)I" } : Jvm.MethodName) method_6_code (7 : Nat) (Option.some Jvm.ClassFile.FieldType.int) [((0 : Nat), (14 : Nat), (17 : Nat), (27 : Nat)), ((0 : Nat), (14 : Nat), (21 : Nat), (18 : Nat)), ((0 : Nat), (14 : Nat), (25 : Nat), (13 : Nat))]) ∈ lw_all := lw_g (lw_at lw_m6 45 rfl) rfl
theorem q1353 : (Jvm.Cond.classLink "CircuitDeskLaw" (27 : Nat) "java/lang/IndexOutOfBoundsException") ∈ lw_all := lw_g (lw_at lw_m6 46 rfl) rfl
theorem q1354 : (Jvm.Cond.instantiable "java/lang/ArrayIndexOutOfBoundsException" (6 : Nat)) ∈ lw_all := lw_g (lw_at lw_m6 47 rfl) rfl
theorem q1355 : (Jvm.Cond.instanceMethod ({ cls := "java/lang/ArrayIndexOutOfBoundsException", name := "<init>", desc := "(Ljava/lang/String;)V" } : Jvm.MethodName)) ∈ lw_all := lw_g (lw_at lw_m6 48 rfl) rfl
theorem q1356 : (Jvm.Cond.code ({ cls := "java/lang/ArrayIndexOutOfBoundsException", name := "<init>", desc := "(Ljava/lang/String;)V" } : Jvm.MethodName) prog_21_method_2_code (2 : Nat) (Option.none : Option Jvm.ClassFile.FieldType)) ∈ lw_all := lw_g (lw_at lw_m6 49 rfl) rfl
theorem q1357 : (Jvm.Cond.methodLink "java/lang/ArrayIndexOutOfBoundsException" (7 : Nat) ({ cls := "java/lang/IndexOutOfBoundsException", name := "<init>", desc := "(Ljava/lang/String;)V" } : Jvm.MethodName)) ∈ lw_all := lw_g (lw_at lw_m6 50 rfl) rfl
theorem q1358 : (Jvm.Cond.instanceMethod ({ cls := "java/lang/IndexOutOfBoundsException", name := "<init>", desc := "(Ljava/lang/String;)V" } : Jvm.MethodName)) ∈ lw_all := lw_g (lw_at lw_m6 51 rfl) rfl
theorem q1359 : (Jvm.Cond.code ({ cls := "java/lang/IndexOutOfBoundsException", name := "<init>", desc := "(Ljava/lang/String;)V" } : Jvm.MethodName) prog_28_method_2_code (2 : Nat) (Option.none : Option Jvm.ClassFile.FieldType)) ∈ lw_all := lw_g (lw_at lw_m6 52 rfl) rfl
theorem q1360 : (Jvm.Cond.methodLink "java/lang/IndexOutOfBoundsException" (7 : Nat) ({ cls := "java/lang/RuntimeException", name := "<init>", desc := "(Ljava/lang/String;)V" } : Jvm.MethodName)) ∈ lw_all := lw_g (lw_at lw_m6 53 rfl) rfl
theorem q1361 : (Jvm.Cond.lays "java/lang/ArrayIndexOutOfBoundsException" "java/lang/Throwable" "backtrace" "Ljava/lang/Object;") ∈ lw_all := lw_g (lw_at lw_m6 54 rfl) rfl
theorem q1362 : (Jvm.Cond.lays "java/lang/ArrayIndexOutOfBoundsException" "java/lang/Throwable" "detailMessage" "Ljava/lang/String;") ∈ lw_all := lw_g (lw_at lw_m6 55 rfl) rfl
theorem q1363 : (Jvm.Cond.lays "java/lang/ArrayIndexOutOfBoundsException" "java/lang/Throwable" "cause" "Ljava/lang/Throwable;") ∈ lw_all := lw_g (lw_at lw_m6 56 rfl) rfl
theorem q1364 : (Jvm.Cond.lays "java/lang/ArrayIndexOutOfBoundsException" "java/lang/Throwable" "stackTrace" "[Ljava/lang/StackTraceElement;") ∈ lw_all := lw_g (lw_at lw_m6 57 rfl) rfl
theorem q1365 : (Jvm.Cond.lays "java/lang/ArrayIndexOutOfBoundsException" "java/lang/Throwable" "depth" "I") ∈ lw_all := lw_g (lw_at lw_m6 58 rfl) rfl
theorem q1366 : (Jvm.Cond.lays "java/lang/ArrayIndexOutOfBoundsException" "java/lang/Throwable" "suppressedExceptions" "Ljava/util/List;") ∈ lw_all := lw_g (lw_at lw_m6 59 rfl) rfl
theorem q1367 : (Jvm.Cond.superclass "java/lang/ArrayIndexOutOfBoundsException" "java/lang/IndexOutOfBoundsException") ∈ lw_all := lw_g (lw_at lw_m6 60 rfl) rfl
theorem q1368 : (Jvm.Cond.castable "java/lang/ArrayIndexOutOfBoundsException" "java/lang/ArrayIndexOutOfBoundsException") ∈ lw_tbl := lw_at lw_m6 61 rfl
theorem q1369 : (Jvm.Cond.declares ({ cls := "java/lang/IndexOutOfBoundsException", name := "<init>", desc := "()V" } : Jvm.MethodName)) ∈ lw_tbl := lw_at lw_m6 62 rfl
theorem q1370 : (Jvm.Cond.declares ({ cls := "java/lang/IndexOutOfBoundsException", name := "<init>", desc := "(Ljava/lang/String;)V" } : Jvm.MethodName)) ∈ lw_tbl := lw_at lw_m6 63 rfl
theorem q1371 : (Jvm.Cond.selects "java/lang/ArrayIndexOutOfBoundsException" ({ cls := "java/lang/Throwable", name := "fillInStackTrace", desc := "(I)Ljava/lang/Throwable;" } : Jvm.MethodName) ({ cls := "java/lang/Throwable", name := "fillInStackTrace", desc := "(I)Ljava/lang/Throwable;" } : Jvm.MethodName)) ∈ lw_all := lw_g (lw_at lw_m6 64 rfl) rfl
theorem q1372 : (Jvm.Cond.methodLink "CircuitDeskLaw" (23 : Nat) ({ cls := "CircuitDesk", name := "addLink", desc := "(IIII)I" } : Jvm.MethodName)) ∈ lw_all := lw_g (lw_at lw_m6 65 rfl) rfl
theorem q1373 : (Jvm.Cond.instanceMethod ({ cls := "CircuitDesk", name := "addLink", desc := "(IIII)I" } : Jvm.MethodName)) ∈ lw_all := lw_g (lw_at lw_m6 66 rfl) rfl
theorem q1374 : (Jvm.Cond.selects "CircuitDesk" ({ cls := "CircuitDesk", name := "addLink", desc := "(IIII)I" } : Jvm.MethodName) ({ cls := "CircuitDesk", name := "addLink", desc := "(IIII)I" } : Jvm.MethodName)) ∈ lw_all := lw_g (lw_at lw_m6 67 rfl) rfl
theorem q1375 : (Jvm.Cond.code ({ cls := "CircuitDesk", name := "addLink", desc := "(IIII)I" } : Jvm.MethodName) prog_1_method_11_code (7 : Nat) (Option.some Jvm.ClassFile.FieldType.int)) ∈ lw_all := lw_g (lw_at lw_m6 68 rfl) rfl
theorem q1376 : (Jvm.Cond.methodLink "CircuitDesk" (97 : Nat) ({ cls := "CircuitDesk", name := "nodeOf", desc := "(I)LCircuitDesk$Node;" } : Jvm.MethodName)) ∈ lw_all := lw_g (lw_at lw_m6 69 rfl) rfl
theorem q1377 : (Jvm.Cond.privateMethod ({ cls := "CircuitDesk", name := "nodeOf", desc := "(I)LCircuitDesk$Node;" } : Jvm.MethodName)) ∈ lw_tbl := lw_at lw_m6 70 rfl
theorem q1378 : (Jvm.Cond.instanceMethod ({ cls := "CircuitDesk", name := "nodeOf", desc := "(I)LCircuitDesk$Node;" } : Jvm.MethodName)) ∈ lw_all := lw_g (lw_at lw_m6 71 rfl) rfl
theorem q1379 : (Jvm.Cond.code ({ cls := "CircuitDesk", name := "nodeOf", desc := "(I)LCircuitDesk$Node;" } : Jvm.MethodName) prog_1_method_6_code (2 : Nat) (Option.some (Jvm.ClassFile.FieldType.object "CircuitDesk$Node"))) ∈ lw_all := lw_g (lw_at lw_m6 72 rfl) rfl
theorem q1380 : (Jvm.Cond.methodLink "CircuitDesk" (58 : Nat) ({ cls := "CircuitDesk", name := "checkIndex", desc := "(Z)V" } : Jvm.MethodName)) ∈ lw_all := lw_g (lw_at lw_m6 73 rfl) rfl
theorem q1381 : (Jvm.Cond.static ({ cls := "CircuitDesk", name := "checkIndex", desc := "(Z)V" } : Jvm.MethodName)) ∈ lw_all := lw_g (lw_at lw_m6 74 rfl) rfl
theorem q1382 : (Jvm.Cond.code ({ cls := "CircuitDesk", name := "checkIndex", desc := "(Z)V" } : Jvm.MethodName) prog_1_method_2_code (1 : Nat) (Option.none : Option Jvm.ClassFile.FieldType)) ∈ lw_all := lw_g (lw_at lw_m6 75 rfl) rfl
theorem q1383 : (Jvm.Cond.classLink "CircuitDesk" (1 : Nat) "java/lang/IndexOutOfBoundsException") ∈ lw_all := lw_g (lw_at lw_m6 76 rfl) rfl
theorem q1384 : (Jvm.Cond.instantiable "java/lang/IndexOutOfBoundsException" (6 : Nat)) ∈ lw_all := lw_g (lw_at lw_m6 77 rfl) rfl
theorem q1385 : (Jvm.Cond.castable "java/lang/IndexOutOfBoundsException" "java/lang/IndexOutOfBoundsException") ∈ lw_tbl := lw_at lw_m6 78 rfl
theorem q1386 : (Jvm.Cond.selects "java/lang/IndexOutOfBoundsException" ({ cls := "java/lang/Throwable", name := "fillInStackTrace", desc := "(I)Ljava/lang/Throwable;" } : Jvm.MethodName) ({ cls := "java/lang/Throwable", name := "fillInStackTrace", desc := "(I)Ljava/lang/Throwable;" } : Jvm.MethodName)) ∈ lw_all := lw_g (lw_at lw_m6 79 rfl) rfl
theorem q1387 : (Jvm.Cond.lays "java/lang/IndexOutOfBoundsException" "java/lang/Throwable" "cause" "Ljava/lang/Throwable;") ∈ lw_all := lw_g (lw_at lw_m6 80 rfl) rfl
theorem q1388 : (Jvm.Cond.lays "java/lang/IndexOutOfBoundsException" "java/lang/Throwable" "stackTrace" "[Ljava/lang/StackTraceElement;") ∈ lw_all := lw_g (lw_at lw_m6 81 rfl) rfl
theorem q1389 : (Jvm.Cond.lays "java/lang/IndexOutOfBoundsException" "java/lang/Throwable" "suppressedExceptions" "Ljava/util/List;") ∈ lw_all := lw_g (lw_at lw_m6 82 rfl) rfl
theorem q1390 : (Jvm.Cond.lays "java/lang/IndexOutOfBoundsException" "java/lang/Throwable" "detailMessage" "Ljava/lang/String;") ∈ lw_all := lw_g (lw_at lw_m6 83 rfl) rfl
theorem q1391 : (Jvm.Cond.lays "java/lang/IndexOutOfBoundsException" "java/lang/Throwable" "backtrace" "Ljava/lang/Object;") ∈ lw_all := lw_g (lw_at lw_m6 84 rfl) rfl
theorem q1392 : (Jvm.Cond.methodLink "CircuitDesk" (3 : Nat) ({ cls := "java/lang/IndexOutOfBoundsException", name := "<init>", desc := "()V" } : Jvm.MethodName)) ∈ lw_all := lw_g (lw_at lw_m6 85 rfl) rfl
theorem q1393 : (Jvm.Cond.instanceMethod ({ cls := "java/lang/IndexOutOfBoundsException", name := "<init>", desc := "()V" } : Jvm.MethodName)) ∈ lw_all := lw_g (lw_at lw_m6 86 rfl) rfl
theorem q1394 : (Jvm.Cond.code ({ cls := "java/lang/IndexOutOfBoundsException", name := "<init>", desc := "()V" } : Jvm.MethodName) prog_28_method_1_code (1 : Nat) (Option.none : Option Jvm.ClassFile.FieldType)) ∈ lw_all := lw_g (lw_at lw_m6 87 rfl) rfl
theorem q1395 : (Jvm.Cond.methodLink "java/lang/IndexOutOfBoundsException" (1 : Nat) ({ cls := "java/lang/RuntimeException", name := "<init>", desc := "()V" } : Jvm.MethodName)) ∈ lw_all := lw_g (lw_at lw_m6 88 rfl) rfl
theorem q1396 : (Jvm.Cond.lays "java/lang/IndexOutOfBoundsException" "java/lang/Throwable" "depth" "I") ∈ lw_all := lw_g (lw_at lw_m6 89 rfl) rfl
theorem q1397 : (Jvm.Cond.superclass "java/lang/IndexOutOfBoundsException" "java/lang/RuntimeException") ∈ lw_all := lw_g (lw_at lw_m6 90 rfl) rfl
theorem q1398 : (Jvm.Cond.methodLink "CircuitDesk" (101 : Nat) ({ cls := "CircuitDesk", name := "isLink", desc := "(II)Z" } : Jvm.MethodName)) ∈ lw_all := lw_g (lw_at lw_m6 91 rfl) rfl
theorem q1399 : (Jvm.Cond.static ({ cls := "CircuitDesk", name := "isLink", desc := "(II)Z" } : Jvm.MethodName)) ∈ lw_all := lw_g (lw_at lw_m6 92 rfl) rfl
theorem q1400 : (Jvm.Cond.code ({ cls := "CircuitDesk", name := "isLink", desc := "(II)Z" } : Jvm.MethodName) prog_1_method_10_code (2 : Nat) (Option.some Jvm.ClassFile.FieldType.boolean)) ∈ lw_all := lw_g (lw_at lw_m6 93 rfl) rfl
theorem q1401 : (Jvm.Cond.constantLong "CircuitDesk" (93 : Nat) (99 : Int64)) ∈ lw_all := lw_g (lw_at lw_m6 94 rfl) rfl
theorem q1402 : (Jvm.Cond.constantLong "CircuitDesk" (95 : Nat) (9 : Int64)) ∈ lw_all := lw_g (lw_at lw_m6 95 rfl) rfl
theorem q1403 : (Jvm.Cond.methodLink "CircuitDesk" (105 : Nat) ({ cls := "CircuitDesk$Net", name := "areJoined", desc := "(II)Z" } : Jvm.MethodName)) ∈ lw_all := lw_g (lw_at lw_m6 96 rfl) rfl
theorem q1404 : (Jvm.Cond.methodLink "CircuitDesk" (108 : Nat) ({ cls := "CircuitDesk$Link", name := "<init>", desc := "(IIII)V" } : Jvm.MethodName)) ∈ lw_all := lw_g (lw_at lw_m6 97 rfl) rfl
theorem q1405 : (Jvm.Cond.methodLink "CircuitDeskLaw" (146 : Nat) ({ cls := "CircuitDeskLaw", name := "setUp", desc := "(LCircuitDesk;IZ[J)I" } : Jvm.MethodName)) ∈ lw_all := lw_g (lw_at lw_m6 98 rfl) rfl
theorem q1406 : (Jvm.Cond.static ({ cls := "CircuitDeskLaw", name := "setUp", desc := "(LCircuitDesk;IZ[J)I" } : Jvm.MethodName)) ∈ lw_all := lw_g (lw_at lw_m6 99 rfl) rfl
theorem q1407 : (Jvm.Cond.codeWith ({ cls := "CircuitDeskLaw", name := "setUp", desc := "(LCircuitDesk;IZ[J)I" } : Jvm.MethodName) method_7_code (5 : Nat) (Option.some Jvm.ClassFile.FieldType.int) [((0 : Nat), (17 : Nat), (20 : Nat), (27 : Nat))]) ∈ lw_all := lw_g (lw_at lw_m6 100 rfl) rfl
theorem q1408 : (Jvm.Cond.methodLink "CircuitDeskLaw" (29 : Nat) ({ cls := "CircuitDesk", name := "setUp", desc := "(IZ)Z" } : Jvm.MethodName)) ∈ lw_all := lw_g (lw_at lw_m6 101 rfl) rfl
theorem q1409 : (Jvm.Cond.instanceMethod ({ cls := "CircuitDesk", name := "setUp", desc := "(IZ)Z" } : Jvm.MethodName)) ∈ lw_all := lw_g (lw_at lw_m6 102 rfl) rfl
theorem q1410 : (Jvm.Cond.selects "CircuitDesk" ({ cls := "CircuitDesk", name := "setUp", desc := "(IZ)Z" } : Jvm.MethodName) ({ cls := "CircuitDesk", name := "setUp", desc := "(IZ)Z" } : Jvm.MethodName)) ∈ lw_all := lw_g (lw_at lw_m6 103 rfl) rfl
theorem q1411 : (Jvm.Cond.code ({ cls := "CircuitDesk", name := "setUp", desc := "(IZ)Z" } : Jvm.MethodName) prog_1_method_12_code (5 : Nat) (Option.some Jvm.ClassFile.FieldType.boolean)) ∈ lw_all := lw_g (lw_at lw_m6 104 rfl) rfl
theorem q1412 : (Jvm.Cond.methodLink "CircuitDesk" (111 : Nat) ({ cls := "CircuitDesk", name := "linkOf", desc := "(I)LCircuitDesk$Link;" } : Jvm.MethodName)) ∈ lw_all := lw_g (lw_at lw_m6 105 rfl) rfl
theorem q1413 : (Jvm.Cond.privateMethod ({ cls := "CircuitDesk", name := "linkOf", desc := "(I)LCircuitDesk$Link;" } : Jvm.MethodName)) ∈ lw_tbl := lw_at lw_m6 106 rfl
theorem q1414 : (Jvm.Cond.instanceMethod ({ cls := "CircuitDesk", name := "linkOf", desc := "(I)LCircuitDesk$Link;" } : Jvm.MethodName)) ∈ lw_all := lw_g (lw_at lw_m6 107 rfl) rfl
theorem q1415 : (Jvm.Cond.code ({ cls := "CircuitDesk", name := "linkOf", desc := "(I)LCircuitDesk$Link;" } : Jvm.MethodName) prog_1_method_7_code (2 : Nat) (Option.some (Jvm.ClassFile.FieldType.object "CircuitDesk$Link"))) ∈ lw_all := lw_g (lw_at lw_m6 108 rfl) rfl
theorem q1416 : (Jvm.Cond.methodLink "CircuitDesk" (119 : Nat) ({ cls := "CircuitDesk$Net", name := "fail", desc := "(I)V" } : Jvm.MethodName)) ∈ lw_all := lw_g (lw_at lw_m6 109 rfl) rfl
theorem q1417 : (Jvm.Cond.instanceMethod ({ cls := "CircuitDesk$Net", name := "fail", desc := "(I)V" } : Jvm.MethodName)) ∈ lw_all := lw_g (lw_at lw_m6 110 rfl) rfl
theorem q1418 : (Jvm.Cond.selects "CircuitDesk$Net" ({ cls := "CircuitDesk$Net", name := "fail", desc := "(I)V" } : Jvm.MethodName) ({ cls := "CircuitDesk$Net", name := "fail", desc := "(I)V" } : Jvm.MethodName)) ∈ lw_all := lw_g (lw_at lw_m6 111 rfl) rfl
theorem q1419 : (Jvm.Cond.code ({ cls := "CircuitDesk$Net", name := "fail", desc := "(I)V" } : Jvm.MethodName) prog_7_method_30_code (3 : Nat) (Option.none : Option Jvm.ClassFile.FieldType)) ∈ lw_all := lw_g (lw_at lw_m6 112 rfl) rfl
theorem q1420 : (Jvm.Cond.classLink "CircuitDesk$Net" (82 : Nat) "CircuitDesk$Packet") ∈ lw_all := lw_g (lw_at lw_m6 113 rfl) rfl
theorem q1421 : (Jvm.Cond.methodLink "CircuitDesk$Net" (286 : Nat) ({ cls := "java/util/ArrayList", name := "remove", desc := "(I)Ljava/lang/Object;" } : Jvm.MethodName)) ∈ lw_all := lw_g (lw_at lw_m6 114 rfl) rfl
theorem q1422 : (Jvm.Cond.instanceMethod ({ cls := "java/util/ArrayList", name := "remove", desc := "(I)Ljava/lang/Object;" } : Jvm.MethodName)) ∈ lw_all := lw_g (lw_at lw_m6 115 rfl) rfl
theorem q1423 : (Jvm.Cond.selects "java/util/ArrayList" ({ cls := "java/util/ArrayList", name := "remove", desc := "(I)Ljava/lang/Object;" } : Jvm.MethodName) ({ cls := "java/util/ArrayList", name := "remove", desc := "(I)Ljava/lang/Object;" } : Jvm.MethodName)) ∈ lw_all := lw_g (lw_at lw_m6 116 rfl) rfl
theorem q1424 : (Jvm.Cond.code ({ cls := "java/util/ArrayList", name := "remove", desc := "(I)Ljava/lang/Object;" } : Jvm.MethodName) prog_45_method_29_code (4 : Nat) (Option.some (Jvm.ClassFile.FieldType.object "java/lang/Object"))) ∈ lw_all := lw_g (lw_at lw_m6 117 rfl) rfl
theorem q1425 : (Jvm.Cond.methodLink "java/util/ArrayList" (144 : Nat) ({ cls := "java/util/ArrayList", name := "fastRemove", desc := "([Ljava/lang/Object;I)V" } : Jvm.MethodName)) ∈ lw_all := lw_g (lw_at lw_m6 118 rfl) rfl
theorem q1426 : (Jvm.Cond.privateMethod ({ cls := "java/util/ArrayList", name := "fastRemove", desc := "([Ljava/lang/Object;I)V" } : Jvm.MethodName)) ∈ lw_tbl := lw_at lw_m6 119 rfl
theorem q1427 : (Jvm.Cond.instanceMethod ({ cls := "java/util/ArrayList", name := "fastRemove", desc := "([Ljava/lang/Object;I)V" } : Jvm.MethodName)) ∈ lw_all := lw_g (lw_at lw_m6 120 rfl) rfl
theorem q1428 : (Jvm.Cond.code ({ cls := "java/util/ArrayList", name := "fastRemove", desc := "([Ljava/lang/Object;I)V" } : Jvm.MethodName) prog_45_method_39_code (4 : Nat) (Option.none : Option Jvm.ClassFile.FieldType)) ∈ lw_all := lw_g (lw_at lw_m6 121 rfl) rfl
theorem q1429 : (Jvm.Cond.methodLink "java/util/ArrayList" (112 : Nat) ({ cls := "java/lang/System", name := "arraycopy", desc := "(Ljava/lang/Object;ILjava/lang/Object;II)V" } : Jvm.MethodName)) ∈ lw_all := lw_g (lw_at lw_m6 122 rfl) rfl
theorem q1430 : (Jvm.Cond.methodLink "CircuitDesk$Net" (239 : Nat) ({ cls := "CircuitDesk$Net", name := "lose", desc := "(LCircuitDesk$Circuit;)V" } : Jvm.MethodName)) ∈ lw_all := lw_g (lw_at lw_m6 123 rfl) rfl
theorem q1431 : (Jvm.Cond.privateMethod ({ cls := "CircuitDesk$Net", name := "lose", desc := "(LCircuitDesk$Circuit;)V" } : Jvm.MethodName)) ∈ lw_tbl := lw_at lw_m6 124 rfl
theorem q1432 : (Jvm.Cond.instanceMethod ({ cls := "CircuitDesk$Net", name := "lose", desc := "(LCircuitDesk$Circuit;)V" } : Jvm.MethodName)) ∈ lw_all := lw_g (lw_at lw_m6 125 rfl) rfl
theorem q1433 : (Jvm.Cond.code ({ cls := "CircuitDesk$Net", name := "lose", desc := "(LCircuitDesk$Circuit;)V" } : Jvm.MethodName) prog_7_method_19_code (2 : Nat) (Option.none : Option Jvm.ClassFile.FieldType)) ∈ lw_all := lw_g (lw_at lw_m6 126 rfl) rfl
theorem q1434 : (Jvm.Cond.methodLink "CircuitDeskLaw" (150 : Nat) ({ cls := "CircuitDeskLaw", name := "set", desc := "(LCircuitDesk;II[J)I" } : Jvm.MethodName)) ∈ lw_all := lw_g (lw_at lw_m6 127 rfl) rfl
theorem q1435 : (Jvm.Cond.static ({ cls := "CircuitDeskLaw", name := "set", desc := "(LCircuitDesk;II[J)I" } : Jvm.MethodName)) ∈ lw_all := lw_g (lw_at lw_m6 128 rfl) rfl
theorem q1436 : (Jvm.Cond.codeWith ({ cls := "CircuitDeskLaw", name := "set", desc := "(LCircuitDesk;II[J)I" } : Jvm.MethodName) method_8_code (5 : Nat) (Option.some Jvm.ClassFile.FieldType.int) [((0 : Nat), (10 : Nat), (13 : Nat), (18 : Nat))]) ∈ lw_all := lw_g (lw_at lw_m6 129 rfl) rfl
theorem q1437 : (Jvm.Cond.methodLink "CircuitDeskLaw" (33 : Nat) ({ cls := "CircuitDesk", name := "set", desc := "(II)I" } : Jvm.MethodName)) ∈ lw_all := lw_g (lw_at lw_m6 130 rfl) rfl
theorem q1438 : (Jvm.Cond.instanceMethod ({ cls := "CircuitDesk", name := "set", desc := "(II)I" } : Jvm.MethodName)) ∈ lw_all := lw_g (lw_at lw_m6 131 rfl) rfl
theorem q1439 : (Jvm.Cond.selects "CircuitDesk" ({ cls := "CircuitDesk", name := "set", desc := "(II)I" } : Jvm.MethodName) ({ cls := "CircuitDesk", name := "set", desc := "(II)I" } : Jvm.MethodName)) ∈ lw_all := lw_g (lw_at lw_m6 132 rfl) rfl
theorem q1440 : (Jvm.Cond.code ({ cls := "CircuitDesk", name := "set", desc := "(II)I" } : Jvm.MethodName) prog_1_method_14_code (4 : Nat) (Option.some Jvm.ClassFile.FieldType.int)) ∈ lw_all := lw_g (lw_at lw_m6 133 rfl) rfl
theorem q1441 : (Jvm.Cond.methodLink "CircuitDesk" (122 : Nat) ({ cls := "CircuitDesk", name := "mostOf", desc := "(I)I" } : Jvm.MethodName)) ∈ lw_all := lw_g (lw_at lw_m6 134 rfl) rfl
theorem q1442 : (Jvm.Cond.methodLink "CircuitDeskLaw" (154 : Nat) ({ cls := "CircuitDeskLaw", name := "count", desc := "(LCircuitDesk;I[J)I" } : Jvm.MethodName)) ∈ lw_all := lw_g (lw_at lw_m6 135 rfl) rfl
theorem q1443 : (Jvm.Cond.static ({ cls := "CircuitDeskLaw", name := "count", desc := "(LCircuitDesk;I[J)I" } : Jvm.MethodName)) ∈ lw_all := lw_g (lw_at lw_m6 136 rfl) rfl
theorem q1444 : (Jvm.Cond.codeWith ({ cls := "CircuitDeskLaw", name := "count", desc := "(LCircuitDesk;I[J)I" } : Jvm.MethodName) method_9_code (4 : Nat) (Option.some Jvm.ClassFile.FieldType.int) [((0 : Nat), (9 : Nat), (12 : Nat), (18 : Nat))]) ∈ lw_all := lw_g (lw_at lw_m6 137 rfl) rfl
theorem q1445 : (Jvm.Cond.methodLink "CircuitDeskLaw" (37 : Nat) ({ cls := "CircuitDesk", name := "count", desc := "(I)I" } : Jvm.MethodName)) ∈ lw_all := lw_g (lw_at lw_m6 138 rfl) rfl
theorem q1446 : (Jvm.Cond.instanceMethod ({ cls := "CircuitDesk", name := "count", desc := "(I)I" } : Jvm.MethodName)) ∈ lw_all := lw_g (lw_at lw_m6 139 rfl) rfl
theorem q1447 : (Jvm.Cond.selects "CircuitDesk" ({ cls := "CircuitDesk", name := "count", desc := "(I)I" } : Jvm.MethodName) ({ cls := "CircuitDesk", name := "count", desc := "(I)I" } : Jvm.MethodName)) ∈ lw_all := lw_g (lw_at lw_m6 140 rfl) rfl
theorem q1448 : (Jvm.Cond.code ({ cls := "CircuitDesk", name := "count", desc := "(I)I" } : Jvm.MethodName) prog_1_method_17_code (2 : Nat) (Option.some Jvm.ClassFile.FieldType.int)) ∈ lw_all := lw_g (lw_at lw_m6 141 rfl) rfl
theorem q1449 : (Jvm.Cond.constantLong "CircuitDesk" (151 : Nat) (16 : Int64)) ∈ lw_all := lw_g (lw_at lw_m6 142 rfl) rfl
theorem q1450 : (Jvm.Cond.methodLink "CircuitDesk" (174 : Nat) ({ cls := "CircuitDesk", name := "lent", desc := "()I" } : Jvm.MethodName)) ∈ lw_all := lw_g (lw_at lw_m6 143 rfl) rfl
theorem q1451 : (Jvm.Cond.privateMethod ({ cls := "CircuitDesk", name := "lent", desc := "()I" } : Jvm.MethodName)) ∈ lw_tbl := lw_at lw_m6 144 rfl
theorem q1452 : (Jvm.Cond.instanceMethod ({ cls := "CircuitDesk", name := "lent", desc := "()I" } : Jvm.MethodName)) ∈ lw_all := lw_g (lw_at lw_m6 145 rfl) rfl
theorem q1453 : (Jvm.Cond.code ({ cls := "CircuitDesk", name := "lent", desc := "()I" } : Jvm.MethodName) prog_1_method_15_code (3 : Nat) (Option.some Jvm.ClassFile.FieldType.int)) ∈ lw_all := lw_g (lw_at lw_m6 146 rfl) rfl
theorem q1454 : (Jvm.Cond.methodLink "CircuitDesk" (130 : Nat) ({ cls := "CircuitDesk$Net", name := "borrowedBy", desc := "(I)I" } : Jvm.MethodName)) ∈ lw_all := lw_g (lw_at lw_m6 147 rfl) rfl
theorem q1455 : (Jvm.Cond.methodLink "CircuitDesk" (177 : Nat) ({ cls := "CircuitDesk", name := "moving", desc := "()I" } : Jvm.MethodName)) ∈ lw_all := lw_g (lw_at lw_m6 148 rfl) rfl
theorem q1456 : (Jvm.Cond.privateMethod ({ cls := "CircuitDesk", name := "moving", desc := "()I" } : Jvm.MethodName)) ∈ lw_tbl := lw_at lw_m6 149 rfl
theorem q1457 : (Jvm.Cond.instanceMethod ({ cls := "CircuitDesk", name := "moving", desc := "()I" } : Jvm.MethodName)) ∈ lw_all := lw_g (lw_at lw_m6 150 rfl) rfl
theorem q1458 : (Jvm.Cond.code ({ cls := "CircuitDesk", name := "moving", desc := "()I" } : Jvm.MethodName) prog_1_method_16_code (4 : Nat) (Option.some Jvm.ClassFile.FieldType.int)) ∈ lw_all := lw_g (lw_at lw_m6 151 rfl) rfl
theorem q1459 : (Jvm.Cond.methodLink "CircuitDesk" (133 : Nat) ({ cls := "java/util/ArrayList", name := "iterator", desc := "()Ljava/util/Iterator;" } : Jvm.MethodName)) ∈ lw_all := lw_g (lw_at lw_m6 152 rfl) rfl
theorem q1460 : (Jvm.Cond.instanceMethod ({ cls := "java/util/ArrayList", name := "iterator", desc := "()Ljava/util/Iterator;" } : Jvm.MethodName)) ∈ lw_all := lw_g (lw_at lw_m6 153 rfl) rfl
theorem q1461 : (Jvm.Cond.selects "java/util/ArrayList" ({ cls := "java/util/ArrayList", name := "iterator", desc := "()Ljava/util/Iterator;" } : Jvm.MethodName) ({ cls := "java/util/ArrayList", name := "iterator", desc := "()Ljava/util/Iterator;" } : Jvm.MethodName)) ∈ lw_all := lw_g (lw_at lw_m6 154 rfl) rfl
theorem q1462 : (Jvm.Cond.code ({ cls := "java/util/ArrayList", name := "iterator", desc := "()Ljava/util/Iterator;" } : Jvm.MethodName) prog_45_method_55_code (1 : Nat) (Option.some (Jvm.ClassFile.FieldType.object "java/util/Iterator"))) ∈ lw_all := lw_g (lw_at lw_m6 155 rfl) rfl
theorem q1463 : (Jvm.Cond.classLink "java/util/ArrayList" (267 : Nat) "java/util/ArrayList$Itr") ∈ lw_all := lw_g (lw_at lw_m6 156 rfl) rfl
theorem q1464 : (Jvm.Cond.instantiable "java/util/ArrayList$Itr" (4 : Nat)) ∈ lw_all := lw_g (lw_at lw_m6 157 rfl) rfl
theorem q1465 : (Jvm.Cond.methodLink "java/util/ArrayList" (269 : Nat) ({ cls := "java/util/ArrayList$Itr", name := "<init>", desc := "(Ljava/util/ArrayList;)V" } : Jvm.MethodName)) ∈ lw_all := lw_g (lw_at lw_m6 158 rfl) rfl
theorem q1466 : (Jvm.Cond.instanceMethod ({ cls := "java/util/ArrayList$Itr", name := "<init>", desc := "(Ljava/util/ArrayList;)V" } : Jvm.MethodName)) ∈ lw_all := lw_g (lw_at lw_m6 159 rfl) rfl
theorem q1467 : (Jvm.Cond.code ({ cls := "java/util/ArrayList$Itr", name := "<init>", desc := "(Ljava/util/ArrayList;)V" } : Jvm.MethodName) prog_46_method_1_code (2 : Nat) (Option.none : Option Jvm.ClassFile.FieldType)) ∈ lw_all := lw_g (lw_at lw_m6 160 rfl) rfl
theorem q1468 : (Jvm.Cond.methodLink "java/util/ArrayList$Itr" (7 : Nat) ({ cls := "java/lang/Object", name := "<init>", desc := "()V" } : Jvm.MethodName)) ∈ lw_all := lw_g (lw_at lw_m6 161 rfl) rfl
theorem q1469 : (Jvm.Cond.fieldLink "java/util/ArrayList$Itr" (25 : Nat) "java/util/ArrayList$Itr" "cursor" "I") ∈ lw_all := lw_g (lw_at lw_m6 162 rfl) rfl
theorem q1470 : (Jvm.Cond.fieldLink "java/util/ArrayList$Itr" (13 : Nat) "java/util/ArrayList$Itr" "lastRet" "I") ∈ lw_all := lw_g (lw_at lw_m6 163 rfl) rfl
theorem q1471 : (Jvm.Cond.fieldLink "java/util/ArrayList$Itr" (22 : Nat) "java/util/ArrayList$Itr" "expectedModCount" "I") ∈ lw_all := lw_g (lw_at lw_m6 164 rfl) rfl
theorem q1472 : (Jvm.Cond.fieldLink "java/util/ArrayList$Itr" (1 : Nat) "java/util/ArrayList$Itr" "this$0" "Ljava/util/ArrayList;") ∈ lw_all := lw_g (lw_at lw_m6 165 rfl) rfl
theorem q1473 : (Jvm.Cond.lays "java/util/ArrayList$Itr" "java/util/ArrayList$Itr" "cursor" "I") ∈ lw_all := lw_g (lw_at lw_m6 166 rfl) rfl
theorem q1474 : (Jvm.Cond.soleField "java/util/ArrayList$Itr" "cursor") ∈ lw_all := lw_g (lw_at lw_m6 167 rfl) rfl
theorem q1475 : (Jvm.Cond.lays "java/util/ArrayList$Itr" "java/util/ArrayList$Itr" "lastRet" "I") ∈ lw_all := lw_g (lw_at lw_m6 168 rfl) rfl
theorem q1476 : (Jvm.Cond.soleField "java/util/ArrayList$Itr" "lastRet") ∈ lw_all := lw_g (lw_at lw_m6 169 rfl) rfl
theorem q1477 : (Jvm.Cond.lays "java/util/ArrayList$Itr" "java/util/ArrayList$Itr" "expectedModCount" "I") ∈ lw_all := lw_g (lw_at lw_m6 170 rfl) rfl
theorem q1478 : (Jvm.Cond.soleField "java/util/ArrayList$Itr" "expectedModCount") ∈ lw_all := lw_g (lw_at lw_m6 171 rfl) rfl
theorem q1479 : (Jvm.Cond.laysFinal "java/util/ArrayList$Itr" "java/util/ArrayList$Itr" "this$0" "Ljava/util/ArrayList;") ∈ lw_all := lw_g (lw_at lw_m6 172 rfl) rfl
theorem q1480 : (Jvm.Cond.soleField "java/util/ArrayList$Itr" "this$0") ∈ lw_all := lw_g (lw_at lw_m6 173 rfl) rfl
theorem q1481 : (Jvm.Cond.superclass "java/util/ArrayList$Itr" "java/lang/Object") ∈ lw_all := lw_g (lw_at lw_m6 174 rfl) rfl
theorem q1482 : (Jvm.Cond.interfaceEntry "CircuitDesk" (137 : Nat)) ∈ lw_tbl := lw_at lw_m6 175 rfl
theorem q1483 : (Jvm.Cond.methodLink "CircuitDesk" (137 : Nat) ({ cls := "java/util/Iterator", name := "hasNext", desc := "()Z" } : Jvm.MethodName)) ∈ lw_all := lw_g (lw_at lw_m6 176 rfl) rfl
theorem q1484 : (Jvm.Cond.interfaceMethod "java/util/Iterator" "java/util/Iterator" "hasNext" "()Z") ∈ lw_tbl := lw_at lw_m6 177 rfl
theorem q1485 : (Jvm.Cond.declares ({ cls := "java/util/Iterator", name := "hasNext", desc := "()Z" } : Jvm.MethodName)) ∈ lw_tbl := lw_at lw_m6 178 rfl
theorem q1486 : (Jvm.Cond.castable "java/util/ArrayList$Itr" "java/util/Iterator") ∈ lw_tbl := lw_at lw_m6 179 rfl
theorem q1487 : (Jvm.Cond.selects "java/util/ArrayList$Itr" ({ cls := "java/util/Iterator", name := "hasNext", desc := "()Z" } : Jvm.MethodName) ({ cls := "java/util/ArrayList$Itr", name := "hasNext", desc := "()Z" } : Jvm.MethodName)) ∈ lw_all := lw_g (lw_at lw_m6 180 rfl) rfl
theorem q1488 : (Jvm.Cond.unhidden "java/util/ArrayList$Itr" "hasNext" "()Z") ∈ lw_tbl := lw_at lw_m6 181 rfl
theorem q1489 : (Jvm.Cond.instanceMethod ({ cls := "java/util/ArrayList$Itr", name := "hasNext", desc := "()Z" } : Jvm.MethodName)) ∈ lw_all := lw_g (lw_at lw_m6 182 rfl) rfl
theorem q1490 : (Jvm.Cond.publicMethod ({ cls := "java/util/ArrayList$Itr", name := "hasNext", desc := "()Z" } : Jvm.MethodName)) ∈ lw_tbl := lw_at lw_m6 183 rfl
theorem q1491 : (Jvm.Cond.code ({ cls := "java/util/ArrayList$Itr", name := "hasNext", desc := "()Z" } : Jvm.MethodName) prog_46_method_2_code (1 : Nat) (Option.some Jvm.ClassFile.FieldType.boolean)) ∈ lw_all := lw_g (lw_at lw_m6 184 rfl) rfl
theorem q1492 : (Jvm.Cond.interfaceEntry "CircuitDesk" (143 : Nat)) ∈ lw_tbl := lw_at lw_m6 185 rfl
theorem q1493 : (Jvm.Cond.methodLink "CircuitDesk" (143 : Nat) ({ cls := "java/util/Iterator", name := "next", desc := "()Ljava/lang/Object;" } : Jvm.MethodName)) ∈ lw_all := lw_g (lw_at lw_m6 186 rfl) rfl
theorem q1494 : (Jvm.Cond.interfaceMethod "java/util/Iterator" "java/util/Iterator" "next" "()Ljava/lang/Object;") ∈ lw_tbl := lw_at lw_m6 187 rfl
theorem q1495 : (Jvm.Cond.declares ({ cls := "java/util/Iterator", name := "next", desc := "()Ljava/lang/Object;" } : Jvm.MethodName)) ∈ lw_tbl := lw_at lw_m6 188 rfl
theorem q1496 : (Jvm.Cond.selects "java/util/ArrayList$Itr" ({ cls := "java/util/Iterator", name := "next", desc := "()Ljava/lang/Object;" } : Jvm.MethodName) ({ cls := "java/util/ArrayList$Itr", name := "next", desc := "()Ljava/lang/Object;" } : Jvm.MethodName)) ∈ lw_all := lw_g (lw_at lw_m6 189 rfl) rfl
theorem q1497 : (Jvm.Cond.unhidden "java/util/ArrayList$Itr" "next" "()Ljava/lang/Object;") ∈ lw_tbl := lw_at lw_m6 190 rfl
theorem q1498 : (Jvm.Cond.instanceMethod ({ cls := "java/util/ArrayList$Itr", name := "next", desc := "()Ljava/lang/Object;" } : Jvm.MethodName)) ∈ lw_all := lw_g (lw_at lw_m6 191 rfl) rfl
theorem q1499 : (Jvm.Cond.publicMethod ({ cls := "java/util/ArrayList$Itr", name := "next", desc := "()Ljava/lang/Object;" } : Jvm.MethodName)) ∈ lw_tbl := lw_at lw_m6 192 rfl
theorem q1500 : (Jvm.Cond.code ({ cls := "java/util/ArrayList$Itr", name := "next", desc := "()Ljava/lang/Object;" } : Jvm.MethodName) prog_46_method_3_code (3 : Nat) (Option.some (Jvm.ClassFile.FieldType.object "java/lang/Object"))) ∈ lw_all := lw_g (lw_at lw_m6 193 rfl) rfl
theorem q1501 : (Jvm.Cond.methodLink "java/util/ArrayList$Itr" (31 : Nat) ({ cls := "java/util/ArrayList$Itr", name := "checkForComodification", desc := "()V" } : Jvm.MethodName)) ∈ lw_all := lw_g (lw_at lw_m6 194 rfl) rfl
theorem q1502 : (Jvm.Cond.instanceMethod ({ cls := "java/util/ArrayList$Itr", name := "checkForComodification", desc := "()V" } : Jvm.MethodName)) ∈ lw_all := lw_g (lw_at lw_m6 195 rfl) rfl
theorem q1503 : (Jvm.Cond.selects "java/util/ArrayList$Itr" ({ cls := "java/util/ArrayList$Itr", name := "checkForComodification", desc := "()V" } : Jvm.MethodName) ({ cls := "java/util/ArrayList$Itr", name := "checkForComodification", desc := "()V" } : Jvm.MethodName)) ∈ lw_all := lw_g (lw_at lw_m6 196 rfl) rfl
theorem q1504 : (Jvm.Cond.code ({ cls := "java/util/ArrayList$Itr", name := "checkForComodification", desc := "()V" } : Jvm.MethodName) prog_46_method_6_code (1 : Nat) (Option.none : Option Jvm.ClassFile.FieldType)) ∈ lw_all := lw_g (lw_at lw_m6 197 rfl) rfl
theorem q1505 : (Jvm.Cond.methodLink "CircuitDesk" (147 : Nat) ({ cls := "CircuitDesk$Net", name := "isMoving", desc := "(LCircuitDesk$Circuit;)Z" } : Jvm.MethodName)) ∈ lw_all := lw_g (lw_at lw_m6 198 rfl) rfl
theorem q1506 : (Jvm.Cond.instanceMethod ({ cls := "CircuitDesk$Net", name := "isMoving", desc := "(LCircuitDesk$Circuit;)Z" } : Jvm.MethodName)) ∈ lw_all := lw_g (lw_at lw_m6 199 rfl) rfl
theorem q1507 : (Jvm.Cond.selects "CircuitDesk$Net" ({ cls := "CircuitDesk$Net", name := "isMoving", desc := "(LCircuitDesk$Circuit;)Z" } : Jvm.MethodName) ({ cls := "CircuitDesk$Net", name := "isMoving", desc := "(LCircuitDesk$Circuit;)Z" } : Jvm.MethodName)) ∈ lw_all := lw_g (lw_at lw_m6 200 rfl) rfl
theorem q1508 : (Jvm.Cond.code ({ cls := "CircuitDesk$Net", name := "isMoving", desc := "(LCircuitDesk$Circuit;)Z" } : Jvm.MethodName) prog_7_method_32_code (3 : Nat) (Option.some Jvm.ClassFile.FieldType.boolean)) ∈ lw_all := lw_g (lw_at lw_m6 201 rfl) rfl
theorem q1509 : (Jvm.Cond.interfaceEntry "CircuitDesk$Net" (340 : Nat)) ∈ lw_tbl := lw_at lw_m6 202 rfl
theorem q1510 : (Jvm.Cond.methodLink "CircuitDesk$Net" (340 : Nat) ({ cls := "CircuitDesk$Phase", name := "isMoving", desc := "()Z" } : Jvm.MethodName)) ∈ lw_all := lw_g (lw_at lw_m6 203 rfl) rfl
theorem q1511 : (Jvm.Cond.interfaceMethod "CircuitDesk$Phase" "CircuitDesk$Phase" "isMoving" "()Z") ∈ lw_tbl := lw_at lw_m6 204 rfl
theorem q1512 : (Jvm.Cond.declares ({ cls := "CircuitDesk$Phase", name := "isMoving", desc := "()Z" } : Jvm.MethodName)) ∈ lw_tbl := lw_at lw_m6 205 rfl
theorem q1513 : (Jvm.Cond.castable "CircuitDesk$Building" "CircuitDesk$Phase") ∈ lw_tbl := lw_at lw_m6 206 rfl
theorem q1514 : (Jvm.Cond.unhidden "CircuitDesk$Building" "isMoving" "()Z") ∈ lw_tbl := lw_at lw_m6 207 rfl
theorem q1515 : (Jvm.Cond.instanceMethod ({ cls := "CircuitDesk$Phase", name := "isMoving", desc := "()Z" } : Jvm.MethodName)) ∈ lw_all := lw_g (lw_at lw_m6 208 rfl) rfl
theorem q1516 : (Jvm.Cond.publicMethod ({ cls := "CircuitDesk$Phase", name := "isMoving", desc := "()Z" } : Jvm.MethodName)) ∈ lw_tbl := lw_at lw_m6 209 rfl
theorem q1517 : (Jvm.Cond.code ({ cls := "CircuitDesk$Phase", name := "isMoving", desc := "()Z" } : Jvm.MethodName) prog_11_method_2_code (1 : Nat) (Option.some Jvm.ClassFile.FieldType.boolean)) ∈ lw_all := lw_g (lw_at lw_m6 210 rfl) rfl
theorem q1518 : (Jvm.Cond.castable "CircuitDesk$Clearing" "CircuitDesk$Phase") ∈ lw_tbl := lw_at lw_m6 211 rfl
theorem q1519 : (Jvm.Cond.unhidden "CircuitDesk$Clearing" "isMoving" "()Z") ∈ lw_tbl := lw_at lw_m6 212 rfl
theorem q1520 : (Jvm.Cond.castable "CircuitDesk$Draining" "CircuitDesk$Phase") ∈ lw_tbl := lw_at lw_m6 213 rfl
theorem q1521 : (Jvm.Cond.unhidden "CircuitDesk$Draining" "isMoving" "()Z") ∈ lw_tbl := lw_at lw_m6 214 rfl
theorem q1522 : (Jvm.Cond.castable "CircuitDesk$Resting" "CircuitDesk$Phase") ∈ lw_tbl := lw_at lw_m6 215 rfl
theorem q1523 : (Jvm.Cond.selects "CircuitDesk$Resting" ({ cls := "CircuitDesk$Phase", name := "isMoving", desc := "()Z" } : Jvm.MethodName) ({ cls := "CircuitDesk$Resting", name := "isMoving", desc := "()Z" } : Jvm.MethodName)) ∈ lw_all := lw_g (lw_at lw_m6 216 rfl) rfl
theorem q1524 : (Jvm.Cond.unhidden "CircuitDesk$Resting" "isMoving" "()Z") ∈ lw_tbl := lw_at lw_m6 217 rfl
theorem q1525 : (Jvm.Cond.instanceMethod ({ cls := "CircuitDesk$Resting", name := "isMoving", desc := "()Z" } : Jvm.MethodName)) ∈ lw_all := lw_g (lw_at lw_m6 218 rfl) rfl
theorem q1526 : (Jvm.Cond.publicMethod ({ cls := "CircuitDesk$Resting", name := "isMoving", desc := "()Z" } : Jvm.MethodName)) ∈ lw_tbl := lw_at lw_m6 219 rfl
theorem q1527 : (Jvm.Cond.code ({ cls := "CircuitDesk$Resting", name := "isMoving", desc := "()Z" } : Jvm.MethodName) prog_12_method_3_code (1 : Nat) (Option.some Jvm.ClassFile.FieldType.boolean)) ∈ lw_all := lw_g (lw_at lw_m6 220 rfl) rfl
theorem q1528 : (Jvm.Cond.methodLink "CircuitDeskLaw" (157 : Nat) ({ cls := "CircuitDeskLaw", name := "node", desc := "(LCircuitDesk;II[J)I" } : Jvm.MethodName)) ∈ lw_all := lw_g (lw_at lw_m6 221 rfl) rfl
theorem q1529 : (Jvm.Cond.static ({ cls := "CircuitDeskLaw", name := "node", desc := "(LCircuitDesk;II[J)I" } : Jvm.MethodName)) ∈ lw_all := lw_g (lw_at lw_m6 222 rfl) rfl
theorem q1530 : (Jvm.Cond.codeWith ({ cls := "CircuitDeskLaw", name := "node", desc := "(LCircuitDesk;II[J)I" } : Jvm.MethodName) method_10_code (5 : Nat) (Option.some Jvm.ClassFile.FieldType.int) [((0 : Nat), (10 : Nat), (13 : Nat), (27 : Nat)), ((0 : Nat), (10 : Nat), (17 : Nat), (18 : Nat))]) ∈ lw_all := lw_g (lw_at lw_m6 223 rfl) rfl
theorem q1531 : (Jvm.Cond.methodLink "CircuitDeskLaw" (40 : Nat) ({ cls := "CircuitDesk", name := "node", desc := "(II)I" } : Jvm.MethodName)) ∈ lw_all := lw_g (lw_at lw_m6 224 rfl) rfl
theorem q1532 : (Jvm.Cond.instanceMethod ({ cls := "CircuitDesk", name := "node", desc := "(II)I" } : Jvm.MethodName)) ∈ lw_all := lw_g (lw_at lw_m6 225 rfl) rfl
theorem q1533 : (Jvm.Cond.selects "CircuitDesk" ({ cls := "CircuitDesk", name := "node", desc := "(II)I" } : Jvm.MethodName) ({ cls := "CircuitDesk", name := "node", desc := "(II)I" } : Jvm.MethodName)) ∈ lw_all := lw_g (lw_at lw_m6 226 rfl) rfl
theorem q1534 : (Jvm.Cond.code ({ cls := "CircuitDesk", name := "node", desc := "(II)I" } : Jvm.MethodName) prog_1_method_19_code (4 : Nat) (Option.some Jvm.ClassFile.FieldType.int)) ∈ lw_all := lw_g (lw_at lw_m6 227 rfl) rfl
theorem q1535 : (Jvm.Cond.constantLong "CircuitDesk" (198 : Nat) (6 : Int64)) ∈ lw_all := lw_g (lw_at lw_m6 228 rfl) rfl
theorem q1536 : (Jvm.Cond.methodLink "CircuitDesk" (200 : Nat) ({ cls := "CircuitDesk$Node", name := "free", desc := "()I" } : Jvm.MethodName)) ∈ lw_all := lw_g (lw_at lw_m6 229 rfl) rfl
theorem q1537 : (Jvm.Cond.methodLink "CircuitDesk" (203 : Nat) ({ cls := "CircuitDesk$Node", name := "heldBy", desc := "(I)I" } : Jvm.MethodName)) ∈ lw_all := lw_g (lw_at lw_m6 230 rfl) rfl
theorem q1538 : (Jvm.Cond.methodLink "CircuitDesk" (206 : Nat) ({ cls := "CircuitDesk", name := "entriesOf", desc := "(I)I" } : Jvm.MethodName)) ∈ lw_all := lw_g (lw_at lw_m6 231 rfl) rfl
theorem q1539 : (Jvm.Cond.privateMethod ({ cls := "CircuitDesk", name := "entriesOf", desc := "(I)I" } : Jvm.MethodName)) ∈ lw_tbl := lw_at lw_m6 232 rfl
theorem q1540 : (Jvm.Cond.instanceMethod ({ cls := "CircuitDesk", name := "entriesOf", desc := "(I)I" } : Jvm.MethodName)) ∈ lw_all := lw_g (lw_at lw_m6 233 rfl) rfl
theorem q1541 : (Jvm.Cond.code ({ cls := "CircuitDesk", name := "entriesOf", desc := "(I)I" } : Jvm.MethodName) prog_1_method_18_code (6 : Nat) (Option.some Jvm.ClassFile.FieldType.int)) ∈ lw_all := lw_g (lw_at lw_m6 234 rfl) rfl
theorem q1542 : (Jvm.Cond.methodLink "CircuitDesk" (209 : Nat) ({ cls := "CircuitDesk$Net", name := "degree", desc := "(I)I" } : Jvm.MethodName)) ∈ lw_all := lw_g (lw_at lw_m6 235 rfl) rfl
theorem q1543 : (Jvm.Cond.instanceMethod ({ cls := "CircuitDesk$Net", name := "degree", desc := "(I)I" } : Jvm.MethodName)) ∈ lw_all := lw_g (lw_at lw_m6 236 rfl) rfl
theorem q1544 : (Jvm.Cond.selects "CircuitDesk$Net" ({ cls := "CircuitDesk$Net", name := "degree", desc := "(I)I" } : Jvm.MethodName) ({ cls := "CircuitDesk$Net", name := "degree", desc := "(I)I" } : Jvm.MethodName)) ∈ lw_all := lw_g (lw_at lw_m6 237 rfl) rfl
theorem q1545 : (Jvm.Cond.code ({ cls := "CircuitDesk$Net", name := "degree", desc := "(I)I" } : Jvm.MethodName) prog_7_method_5_code (4 : Nat) (Option.some Jvm.ClassFile.FieldType.int)) ∈ lw_all := lw_g (lw_at lw_m6 238 rfl) rfl
theorem q1546 : (Jvm.Cond.methodLink "CircuitDeskLaw" (160 : Nat) ({ cls := "CircuitDeskLaw", name := "label", desc := "(LCircuitDesk;III[J)I" } : Jvm.MethodName)) ∈ lw_all := lw_g (lw_at lw_m6 239 rfl) rfl
theorem q1547 : (Jvm.Cond.static ({ cls := "CircuitDeskLaw", name := "label", desc := "(LCircuitDesk;III[J)I" } : Jvm.MethodName)) ∈ lw_all := lw_g (lw_at lw_m7 0 rfl) rfl
theorem q1548 : (Jvm.Cond.codeWith ({ cls := "CircuitDeskLaw", name := "label", desc := "(LCircuitDesk;III[J)I" } : Jvm.MethodName) method_11_code (6 : Nat) (Option.some Jvm.ClassFile.FieldType.int) [((0 : Nat), (12 : Nat), (15 : Nat), (27 : Nat)), ((0 : Nat), (12 : Nat), (19 : Nat), (18 : Nat))]) ∈ lw_all := lw_g (lw_at lw_m7 1 rfl) rfl
theorem q1549 : (Jvm.Cond.methodLink "CircuitDeskLaw" (43 : Nat) ({ cls := "CircuitDesk", name := "label", desc := "(III)I" } : Jvm.MethodName)) ∈ lw_all := lw_g (lw_at lw_m7 2 rfl) rfl
theorem q1550 : (Jvm.Cond.instanceMethod ({ cls := "CircuitDesk", name := "label", desc := "(III)I" } : Jvm.MethodName)) ∈ lw_all := lw_g (lw_at lw_m7 3 rfl) rfl
theorem q1551 : (Jvm.Cond.selects "CircuitDesk" ({ cls := "CircuitDesk", name := "label", desc := "(III)I" } : Jvm.MethodName) ({ cls := "CircuitDesk", name := "label", desc := "(III)I" } : Jvm.MethodName)) ∈ lw_all := lw_g (lw_at lw_m7 4 rfl) rfl
theorem q1552 : (Jvm.Cond.code ({ cls := "CircuitDesk", name := "label", desc := "(III)I" } : Jvm.MethodName) prog_1_method_20_code (5 : Nat) (Option.some Jvm.ClassFile.FieldType.int)) ∈ lw_all := lw_g (lw_at lw_m7 5 rfl) rfl
theorem q1553 : (Jvm.Cond.constantLong "CircuitDesk" (212 : Nat) (3 : Int64)) ∈ lw_all := lw_g (lw_at lw_m7 6 rfl) rfl
theorem q1554 : (Jvm.Cond.methodLink "CircuitDeskLaw" (164 : Nat) ({ cls := "CircuitDeskLaw", name := "link", desc := "(LCircuitDesk;II[J)I" } : Jvm.MethodName)) ∈ lw_all := lw_g (lw_at lw_m7 7 rfl) rfl
theorem q1555 : (Jvm.Cond.static ({ cls := "CircuitDeskLaw", name := "link", desc := "(LCircuitDesk;II[J)I" } : Jvm.MethodName)) ∈ lw_all := lw_g (lw_at lw_m7 8 rfl) rfl
theorem q1556 : (Jvm.Cond.codeWith ({ cls := "CircuitDeskLaw", name := "link", desc := "(LCircuitDesk;II[J)I" } : Jvm.MethodName) method_12_code (5 : Nat) (Option.some Jvm.ClassFile.FieldType.int) [((0 : Nat), (10 : Nat), (13 : Nat), (27 : Nat)), ((0 : Nat), (10 : Nat), (17 : Nat), (18 : Nat))]) ∈ lw_all := lw_g (lw_at lw_m7 9 rfl) rfl
theorem q1557 : (Jvm.Cond.methodLink "CircuitDeskLaw" (47 : Nat) ({ cls := "CircuitDesk", name := "link", desc := "(II)I" } : Jvm.MethodName)) ∈ lw_all := lw_g (lw_at lw_m7 10 rfl) rfl
theorem q1558 : (Jvm.Cond.instanceMethod ({ cls := "CircuitDesk", name := "link", desc := "(II)I" } : Jvm.MethodName)) ∈ lw_all := lw_g (lw_at lw_m7 11 rfl) rfl
theorem q1559 : (Jvm.Cond.selects "CircuitDesk" ({ cls := "CircuitDesk", name := "link", desc := "(II)I" } : Jvm.MethodName) ({ cls := "CircuitDesk", name := "link", desc := "(II)I" } : Jvm.MethodName)) ∈ lw_all := lw_g (lw_at lw_m7 12 rfl) rfl
theorem q1560 : (Jvm.Cond.code ({ cls := "CircuitDesk", name := "link", desc := "(II)I" } : Jvm.MethodName) prog_1_method_21_code (4 : Nat) (Option.some Jvm.ClassFile.FieldType.int)) ∈ lw_all := lw_g (lw_at lw_m7 13 rfl) rfl
theorem q1561 : (Jvm.Cond.methodLink "CircuitDesk" (236 : Nat) ({ cls := "CircuitDesk$Net", name := "packetsOn", desc := "(I)I" } : Jvm.MethodName)) ∈ lw_all := lw_g (lw_at lw_m7 14 rfl) rfl
theorem q1562 : (Jvm.Cond.instanceMethod ({ cls := "CircuitDesk$Net", name := "packetsOn", desc := "(I)I" } : Jvm.MethodName)) ∈ lw_all := lw_g (lw_at lw_m7 15 rfl) rfl
theorem q1563 : (Jvm.Cond.selects "CircuitDesk$Net" ({ cls := "CircuitDesk$Net", name := "packetsOn", desc := "(I)I" } : Jvm.MethodName) ({ cls := "CircuitDesk$Net", name := "packetsOn", desc := "(I)I" } : Jvm.MethodName)) ∈ lw_all := lw_g (lw_at lw_m7 16 rfl) rfl
theorem q1564 : (Jvm.Cond.code ({ cls := "CircuitDesk$Net", name := "packetsOn", desc := "(I)I" } : Jvm.MethodName) prog_7_method_28_code (4 : Nat) (Option.some Jvm.ClassFile.FieldType.int)) ∈ lw_all := lw_g (lw_at lw_m7 17 rfl) rfl
theorem q1565 : (Jvm.Cond.methodLink "CircuitDeskLaw" (167 : Nat) ({ cls := "CircuitDeskLaw", name := "draft", desc := "(LCircuitDesk;I[J)I" } : Jvm.MethodName)) ∈ lw_all := lw_g (lw_at lw_m7 18 rfl) rfl
theorem q1566 : (Jvm.Cond.static ({ cls := "CircuitDeskLaw", name := "draft", desc := "(LCircuitDesk;I[J)I" } : Jvm.MethodName)) ∈ lw_all := lw_g (lw_at lw_m7 19 rfl) rfl
theorem q1567 : (Jvm.Cond.codeWith ({ cls := "CircuitDeskLaw", name := "draft", desc := "(LCircuitDesk;I[J)I" } : Jvm.MethodName) method_13_code (4 : Nat) (Option.some Jvm.ClassFile.FieldType.int) [((0 : Nat), (9 : Nat), (12 : Nat), (27 : Nat)), ((0 : Nat), (9 : Nat), (15 : Nat), (13 : Nat))]) ∈ lw_all := lw_g (lw_at lw_m7 20 rfl) rfl
theorem q1568 : (Jvm.Cond.methodLink "CircuitDeskLaw" (50 : Nat) ({ cls := "CircuitDesk", name := "draft", desc := "(I)I" } : Jvm.MethodName)) ∈ lw_all := lw_g (lw_at lw_m7 21 rfl) rfl
theorem q1569 : (Jvm.Cond.instanceMethod ({ cls := "CircuitDesk", name := "draft", desc := "(I)I" } : Jvm.MethodName)) ∈ lw_all := lw_g (lw_at lw_m7 22 rfl) rfl
theorem q1570 : (Jvm.Cond.selects "CircuitDesk" ({ cls := "CircuitDesk", name := "draft", desc := "(I)I" } : Jvm.MethodName) ({ cls := "CircuitDesk", name := "draft", desc := "(I)I" } : Jvm.MethodName)) ∈ lw_all := lw_g (lw_at lw_m7 23 rfl) rfl
theorem q1571 : (Jvm.Cond.code ({ cls := "CircuitDesk", name := "draft", desc := "(I)I" } : Jvm.MethodName) prog_1_method_22_code (3 : Nat) (Option.some Jvm.ClassFile.FieldType.int)) ∈ lw_all := lw_g (lw_at lw_m7 24 rfl) rfl
theorem q1572 : (Jvm.Cond.methodLink "CircuitDesk" (239 : Nat) ({ cls := "CircuitDesk$Way", name := "has", desc := "(I)Z" } : Jvm.MethodName)) ∈ lw_all := lw_g (lw_at lw_m7 25 rfl) rfl
theorem q1573 : (Jvm.Cond.methodLink "CircuitDesk" (246 : Nat) ({ cls := "CircuitDesk$Way", name := "add", desc := "(I)V" } : Jvm.MethodName)) ∈ lw_all := lw_g (lw_at lw_m7 26 rfl) rfl
theorem q1574 : (Jvm.Cond.methodLink "CircuitDeskLaw" (174 : Nat) ({ cls := "CircuitDeskLaw", name := "draftBest", desc := "(LCircuitDesk;III[J)I" } : Jvm.MethodName)) ∈ lw_all := lw_g (lw_at lw_m7 27 rfl) rfl
theorem q1575 : (Jvm.Cond.static ({ cls := "CircuitDeskLaw", name := "draftBest", desc := "(LCircuitDesk;III[J)I" } : Jvm.MethodName)) ∈ lw_all := lw_g (lw_at lw_m7 28 rfl) rfl
theorem q1576 : (Jvm.Cond.codeWith ({ cls := "CircuitDeskLaw", name := "draftBest", desc := "(LCircuitDesk;III[J)I" } : Jvm.MethodName) method_14_code (6 : Nat) (Option.some Jvm.ClassFile.FieldType.int) [((0 : Nat), (12 : Nat), (15 : Nat), (27 : Nat)), ((0 : Nat), (12 : Nat), (19 : Nat), (18 : Nat))]) ∈ lw_all := lw_g (lw_at lw_m7 29 rfl) rfl
theorem q1577 : (Jvm.Cond.methodLink "CircuitDeskLaw" (53 : Nat) ({ cls := "CircuitDesk", name := "draftBest", desc := "(III)I" } : Jvm.MethodName)) ∈ lw_all := lw_g (lw_at lw_m7 30 rfl) rfl
theorem q1578 : (Jvm.Cond.instanceMethod ({ cls := "CircuitDesk", name := "draftBest", desc := "(III)I" } : Jvm.MethodName)) ∈ lw_all := lw_g (lw_at lw_m7 31 rfl) rfl
theorem q1579 : (Jvm.Cond.selects "CircuitDesk" ({ cls := "CircuitDesk", name := "draftBest", desc := "(III)I" } : Jvm.MethodName) ({ cls := "CircuitDesk", name := "draftBest", desc := "(III)I" } : Jvm.MethodName)) ∈ lw_all := lw_g (lw_at lw_m7 32 rfl) rfl
theorem q1580 : (Jvm.Cond.code ({ cls := "CircuitDesk", name := "draftBest", desc := "(III)I" } : Jvm.MethodName) prog_1_method_25_code (7 : Nat) (Option.some Jvm.ClassFile.FieldType.int)) ∈ lw_all := lw_g (lw_at lw_m7 33 rfl) rfl
theorem q1581 : (Jvm.Cond.methodLink "CircuitDesk" (250 : Nat) ({ cls := "CircuitDesk", name := "isBand", desc := "(I)Z" } : Jvm.MethodName)) ∈ lw_all := lw_g (lw_at lw_m7 34 rfl) rfl
theorem q1582 : (Jvm.Cond.static ({ cls := "CircuitDesk", name := "isBand", desc := "(I)Z" } : Jvm.MethodName)) ∈ lw_all := lw_g (lw_at lw_m7 35 rfl) rfl
theorem q1583 : (Jvm.Cond.code ({ cls := "CircuitDesk", name := "isBand", desc := "(I)Z" } : Jvm.MethodName) prog_1_method_24_code (1 : Nat) (Option.some Jvm.ClassFile.FieldType.boolean)) ∈ lw_all := lw_g (lw_at lw_m7 36 rfl) rfl
theorem q1584 : (Jvm.Cond.constantLong "CircuitDesk" (248 : Nat) (20 : Int64)) ∈ lw_all := lw_g (lw_at lw_m7 37 rfl) rfl
theorem q1585 : (Jvm.Cond.methodLink "CircuitDeskLaw" (177 : Nat) ({ cls := "CircuitDeskLaw", name := "draftNode", desc := "(LCircuitDesk;I[J)I" } : Jvm.MethodName)) ∈ lw_all := lw_g (lw_at lw_m7 38 rfl) rfl
theorem q1586 : (Jvm.Cond.static ({ cls := "CircuitDeskLaw", name := "draftNode", desc := "(LCircuitDesk;I[J)I" } : Jvm.MethodName)) ∈ lw_all := lw_g (lw_at lw_m7 39 rfl) rfl
theorem q1587 : (Jvm.Cond.codeWith ({ cls := "CircuitDeskLaw", name := "draftNode", desc := "(LCircuitDesk;I[J)I" } : Jvm.MethodName) method_15_code (4 : Nat) (Option.some Jvm.ClassFile.FieldType.int) [((0 : Nat), (9 : Nat), (12 : Nat), (27 : Nat))]) ∈ lw_all := lw_g (lw_at lw_m7 40 rfl) rfl
theorem q1588 : (Jvm.Cond.methodLink "CircuitDeskLaw" (56 : Nat) ({ cls := "CircuitDesk", name := "draftNode", desc := "(I)I" } : Jvm.MethodName)) ∈ lw_all := lw_g (lw_at lw_m7 41 rfl) rfl
theorem q1589 : (Jvm.Cond.instanceMethod ({ cls := "CircuitDesk", name := "draftNode", desc := "(I)I" } : Jvm.MethodName)) ∈ lw_all := lw_g (lw_at lw_m7 42 rfl) rfl
theorem q1590 : (Jvm.Cond.selects "CircuitDesk" ({ cls := "CircuitDesk", name := "draftNode", desc := "(I)I" } : Jvm.MethodName) ({ cls := "CircuitDesk", name := "draftNode", desc := "(I)I" } : Jvm.MethodName)) ∈ lw_all := lw_g (lw_at lw_m7 43 rfl) rfl
theorem q1591 : (Jvm.Cond.code ({ cls := "CircuitDesk", name := "draftNode", desc := "(I)I" } : Jvm.MethodName) prog_1_method_26_code (2 : Nat) (Option.some Jvm.ClassFile.FieldType.int)) ∈ lw_all := lw_g (lw_at lw_m7 44 rfl) rfl
theorem q1592 : (Jvm.Cond.methodLink "CircuitDeskLaw" (180 : Nat) ({ cls := "CircuitDeskLaw", name := "open", desc := "(LCircuitDesk;II[J)I" } : Jvm.MethodName)) ∈ lw_all := lw_g (lw_at lw_m7 45 rfl) rfl
theorem q1593 : (Jvm.Cond.static ({ cls := "CircuitDeskLaw", name := "open", desc := "(LCircuitDesk;II[J)I" } : Jvm.MethodName)) ∈ lw_all := lw_g (lw_at lw_m7 46 rfl) rfl
theorem q1594 : (Jvm.Cond.codeWith ({ cls := "CircuitDeskLaw", name := "open", desc := "(LCircuitDesk;II[J)I" } : Jvm.MethodName) method_16_code (5 : Nat) (Option.some Jvm.ClassFile.FieldType.int) [((0 : Nat), (10 : Nat), (13 : Nat), (18 : Nat))]) ∈ lw_all := lw_g (lw_at lw_m7 47 rfl) rfl
theorem q1595 : (Jvm.Cond.methodLink "CircuitDeskLaw" (59 : Nat) ({ cls := "CircuitDesk", name := "open", desc := "(II)I" } : Jvm.MethodName)) ∈ lw_all := lw_g (lw_at lw_m7 48 rfl) rfl
theorem q1596 : (Jvm.Cond.instanceMethod ({ cls := "CircuitDesk", name := "open", desc := "(II)I" } : Jvm.MethodName)) ∈ lw_all := lw_g (lw_at lw_m7 49 rfl) rfl
theorem q1597 : (Jvm.Cond.selects "CircuitDesk" ({ cls := "CircuitDesk", name := "open", desc := "(II)I" } : Jvm.MethodName) ({ cls := "CircuitDesk", name := "open", desc := "(II)I" } : Jvm.MethodName)) ∈ lw_all := lw_g (lw_at lw_m7 50 rfl) rfl
theorem q1598 : (Jvm.Cond.code ({ cls := "CircuitDesk", name := "open", desc := "(II)I" } : Jvm.MethodName) prog_1_method_27_code (4 : Nat) (Option.some Jvm.ClassFile.FieldType.int)) ∈ lw_all := lw_g (lw_at lw_m7 51 rfl) rfl
theorem q1599 : (Jvm.Cond.methodLink "CircuitDesk" (259 : Nat) ({ cls := "CircuitDesk$Net", name := "open", desc := "(LCircuitDesk$Way;II)I" } : Jvm.MethodName)) ∈ lw_all := lw_g (lw_at lw_m7 52 rfl) rfl
theorem q1600 : (Jvm.Cond.instanceMethod ({ cls := "CircuitDesk$Net", name := "open", desc := "(LCircuitDesk$Way;II)I" } : Jvm.MethodName)) ∈ lw_all := lw_g (lw_at lw_m7 53 rfl) rfl
theorem q1601 : (Jvm.Cond.selects "CircuitDesk$Net" ({ cls := "CircuitDesk$Net", name := "open", desc := "(LCircuitDesk$Way;II)I" } : Jvm.MethodName) ({ cls := "CircuitDesk$Net", name := "open", desc := "(LCircuitDesk$Way;II)I" } : Jvm.MethodName)) ∈ lw_all := lw_g (lw_at lw_m7 54 rfl) rfl
theorem q1602 : (Jvm.Cond.code ({ cls := "CircuitDesk$Net", name := "open", desc := "(LCircuitDesk$Way;II)I" } : Jvm.MethodName) prog_7_method_31_code (5 : Nat) (Option.some Jvm.ClassFile.FieldType.int)) ∈ lw_all := lw_g (lw_at lw_m7 55 rfl) rfl
theorem q1603 : (Jvm.Cond.methodLink "CircuitDesk$Net" (327 : Nat) ({ cls := "CircuitDesk$Net", name := "hasRoom", desc := "(LCircuitDesk$Way;II)Z" } : Jvm.MethodName)) ∈ lw_all := lw_g (lw_at lw_m7 56 rfl) rfl
theorem q1604 : (Jvm.Cond.instanceMethod ({ cls := "CircuitDesk$Net", name := "hasRoom", desc := "(LCircuitDesk$Way;II)Z" } : Jvm.MethodName)) ∈ lw_all := lw_g (lw_at lw_m7 57 rfl) rfl
theorem q1605 : (Jvm.Cond.selects "CircuitDesk$Net" ({ cls := "CircuitDesk$Net", name := "hasRoom", desc := "(LCircuitDesk$Way;II)Z" } : Jvm.MethodName) ({ cls := "CircuitDesk$Net", name := "hasRoom", desc := "(LCircuitDesk$Way;II)Z" } : Jvm.MethodName)) ∈ lw_all := lw_g (lw_at lw_m7 58 rfl) rfl
theorem q1606 : (Jvm.Cond.code ({ cls := "CircuitDesk$Net", name := "hasRoom", desc := "(LCircuitDesk$Way;II)Z" } : Jvm.MethodName) prog_7_method_10_code (6 : Nat) (Option.some Jvm.ClassFile.FieldType.boolean)) ∈ lw_all := lw_g (lw_at lw_m7 59 rfl) rfl
theorem q1607 : (Jvm.Cond.methodLink "CircuitDesk$Net" (166 : Nat) ({ cls := "CircuitDesk$Net", name := "hasRoom", desc := "(III)Z" } : Jvm.MethodName)) ∈ lw_all := lw_g (lw_at lw_m7 60 rfl) rfl
theorem q1608 : (Jvm.Cond.methodLink "CircuitDesk$Net" (330 : Nat) ({ cls := "CircuitDesk$Net", name := "labelAll", desc := "(LCircuitDesk$Way;IZ)Z" } : Jvm.MethodName)) ∈ lw_all := lw_g (lw_at lw_m7 61 rfl) rfl
theorem q1609 : (Jvm.Cond.instanceMethod ({ cls := "CircuitDesk$Net", name := "labelAll", desc := "(LCircuitDesk$Way;IZ)Z" } : Jvm.MethodName)) ∈ lw_all := lw_g (lw_at lw_m7 62 rfl) rfl
theorem q1610 : (Jvm.Cond.selects "CircuitDesk$Net" ({ cls := "CircuitDesk$Net", name := "labelAll", desc := "(LCircuitDesk$Way;IZ)Z" } : Jvm.MethodName) ({ cls := "CircuitDesk$Net", name := "labelAll", desc := "(LCircuitDesk$Way;IZ)Z" } : Jvm.MethodName)) ∈ lw_all := lw_g (lw_at lw_m7 63 rfl) rfl
theorem q1611 : (Jvm.Cond.code ({ cls := "CircuitDesk$Net", name := "labelAll", desc := "(LCircuitDesk$Way;IZ)Z" } : Jvm.MethodName) prog_7_method_18_code (5 : Nat) (Option.some Jvm.ClassFile.FieldType.boolean)) ∈ lw_all := lw_g (lw_at lw_m7 64 rfl) rfl
theorem q1612 : (Jvm.Cond.methodLink "CircuitDesk$Net" (213 : Nat) ({ cls := "CircuitDesk$Net", name := "label", desc := "(LCircuitDesk$Way;IIZ)Z" } : Jvm.MethodName)) ∈ lw_all := lw_g (lw_at lw_m7 65 rfl) rfl
theorem q1613 : (Jvm.Cond.methodLink "CircuitDesk$Net" (217 : Nat) ({ cls := "CircuitDesk$Net", name := "giveUpAll", desc := "(LCircuitDesk$Way;)V" } : Jvm.MethodName)) ∈ lw_all := lw_g (lw_at lw_m7 66 rfl) rfl
theorem q1614 : (Jvm.Cond.instanceMethod ({ cls := "CircuitDesk$Net", name := "giveUpAll", desc := "(LCircuitDesk$Way;)V" } : Jvm.MethodName)) ∈ lw_all := lw_g (lw_at lw_m7 67 rfl) rfl
theorem q1615 : (Jvm.Cond.selects "CircuitDesk$Net" ({ cls := "CircuitDesk$Net", name := "giveUpAll", desc := "(LCircuitDesk$Way;)V" } : Jvm.MethodName) ({ cls := "CircuitDesk$Net", name := "giveUpAll", desc := "(LCircuitDesk$Way;)V" } : Jvm.MethodName)) ∈ lw_all := lw_g (lw_at lw_m7 68 rfl) rfl
theorem q1616 : (Jvm.Cond.code ({ cls := "CircuitDesk$Net", name := "giveUpAll", desc := "(LCircuitDesk$Way;)V" } : Jvm.MethodName) prog_7_method_16_code (3 : Nat) (Option.none : Option Jvm.ClassFile.FieldType)) ∈ lw_all := lw_g (lw_at lw_m7 69 rfl) rfl
theorem q1617 : (Jvm.Cond.methodLink "CircuitDesk$Net" (206 : Nat) ({ cls := "CircuitDesk$Net", name := "giveUp", desc := "(LCircuitDesk$Way;I)V" } : Jvm.MethodName)) ∈ lw_all := lw_g (lw_at lw_m7 70 rfl) rfl
theorem q1618 : (Jvm.Cond.instanceMethod ({ cls := "CircuitDesk$Net", name := "giveUp", desc := "(LCircuitDesk$Way;I)V" } : Jvm.MethodName)) ∈ lw_all := lw_g (lw_at lw_m7 71 rfl) rfl
theorem q1619 : (Jvm.Cond.selects "CircuitDesk$Net" ({ cls := "CircuitDesk$Net", name := "giveUp", desc := "(LCircuitDesk$Way;I)V" } : Jvm.MethodName) ({ cls := "CircuitDesk$Net", name := "giveUp", desc := "(LCircuitDesk$Way;I)V" } : Jvm.MethodName)) ∈ lw_all := lw_g (lw_at lw_m7 72 rfl) rfl
theorem q1620 : (Jvm.Cond.code ({ cls := "CircuitDesk$Net", name := "giveUp", desc := "(LCircuitDesk$Way;I)V" } : Jvm.MethodName) prog_7_method_15_code (3 : Nat) (Option.none : Option Jvm.ClassFile.FieldType)) ∈ lw_all := lw_g (lw_at lw_m7 73 rfl) rfl
theorem q1621 : (Jvm.Cond.methodLink "CircuitDesk$Net" (334 : Nat) ({ cls := "CircuitDesk$Net", name := "make", desc := "(LCircuitDesk$Way;I)V" } : Jvm.MethodName)) ∈ lw_all := lw_g (lw_at lw_m7 74 rfl) rfl
theorem q1622 : (Jvm.Cond.methodLink "CircuitDesk$Net" (337 : Nat) ({ cls := "CircuitDesk$Circuit", name := "<init>", desc := "(II)V" } : Jvm.MethodName)) ∈ lw_all := lw_g (lw_at lw_m7 75 rfl) rfl
theorem q1623 : (Jvm.Cond.methodLink "CircuitDesk$Net" (68 : Nat) ({ cls := "java/util/ArrayList", name := "add", desc := "(Ljava/lang/Object;)Z" } : Jvm.MethodName)) ∈ lw_all := lw_g (lw_at lw_m7 76 rfl) rfl
theorem q1624 : (Jvm.Cond.methodLink "CircuitDeskLaw" (183 : Nat) ({ cls := "CircuitDeskLaw", name := "close", desc := "(LCircuitDesk;I[J)I" } : Jvm.MethodName)) ∈ lw_all := lw_g (lw_at lw_m7 77 rfl) rfl
theorem q1625 : (Jvm.Cond.static ({ cls := "CircuitDeskLaw", name := "close", desc := "(LCircuitDesk;I[J)I" } : Jvm.MethodName)) ∈ lw_all := lw_g (lw_at lw_m7 78 rfl) rfl
theorem q1626 : (Jvm.Cond.codeWith ({ cls := "CircuitDeskLaw", name := "close", desc := "(LCircuitDesk;I[J)I" } : Jvm.MethodName) method_17_code (4 : Nat) (Option.some Jvm.ClassFile.FieldType.int) [((0 : Nat), (9 : Nat), (12 : Nat), (27 : Nat))]) ∈ lw_all := lw_g (lw_at lw_m7 79 rfl) rfl
theorem q1627 : (Jvm.Cond.methodLink "CircuitDeskLaw" (62 : Nat) ({ cls := "CircuitDesk", name := "close", desc := "(I)I" } : Jvm.MethodName)) ∈ lw_all := lw_g (lw_at lw_m7 80 rfl) rfl
theorem q1628 : (Jvm.Cond.instanceMethod ({ cls := "CircuitDesk", name := "close", desc := "(I)I" } : Jvm.MethodName)) ∈ lw_all := lw_g (lw_at lw_m7 81 rfl) rfl
theorem q1629 : (Jvm.Cond.selects "CircuitDesk" ({ cls := "CircuitDesk", name := "close", desc := "(I)I" } : Jvm.MethodName) ({ cls := "CircuitDesk", name := "close", desc := "(I)I" } : Jvm.MethodName)) ∈ lw_all := lw_g (lw_at lw_m7 82 rfl) rfl
theorem q1630 : (Jvm.Cond.code ({ cls := "CircuitDesk", name := "close", desc := "(I)I" } : Jvm.MethodName) prog_1_method_28_code (3 : Nat) (Option.some Jvm.ClassFile.FieldType.int)) ∈ lw_all := lw_g (lw_at lw_m7 83 rfl) rfl
theorem q1631 : (Jvm.Cond.methodLink "CircuitDesk" (263 : Nat) ({ cls := "CircuitDesk", name := "circuitOf", desc := "(I)LCircuitDesk$Circuit;" } : Jvm.MethodName)) ∈ lw_all := lw_g (lw_at lw_m7 84 rfl) rfl
theorem q1632 : (Jvm.Cond.privateMethod ({ cls := "CircuitDesk", name := "circuitOf", desc := "(I)LCircuitDesk$Circuit;" } : Jvm.MethodName)) ∈ lw_tbl := lw_at lw_m7 85 rfl
theorem q1633 : (Jvm.Cond.instanceMethod ({ cls := "CircuitDesk", name := "circuitOf", desc := "(I)LCircuitDesk$Circuit;" } : Jvm.MethodName)) ∈ lw_all := lw_g (lw_at lw_m7 86 rfl) rfl
theorem q1634 : (Jvm.Cond.code ({ cls := "CircuitDesk", name := "circuitOf", desc := "(I)LCircuitDesk$Circuit;" } : Jvm.MethodName) prog_1_method_8_code (2 : Nat) (Option.some (Jvm.ClassFile.FieldType.object "CircuitDesk$Circuit"))) ∈ lw_all := lw_g (lw_at lw_m7 87 rfl) rfl
theorem q1635 : (Jvm.Cond.methodLink "CircuitDesk" (267 : Nat) ({ cls := "CircuitDesk$Net", name := "close", desc := "(I)I" } : Jvm.MethodName)) ∈ lw_all := lw_g (lw_at lw_m7 88 rfl) rfl
theorem q1636 : (Jvm.Cond.instanceMethod ({ cls := "CircuitDesk$Net", name := "close", desc := "(I)I" } : Jvm.MethodName)) ∈ lw_all := lw_g (lw_at lw_m7 89 rfl) rfl
theorem q1637 : (Jvm.Cond.selects "CircuitDesk$Net" ({ cls := "CircuitDesk$Net", name := "close", desc := "(I)I" } : Jvm.MethodName) ({ cls := "CircuitDesk$Net", name := "close", desc := "(I)I" } : Jvm.MethodName)) ∈ lw_all := lw_g (lw_at lw_m7 90 rfl) rfl
theorem q1638 : (Jvm.Cond.code ({ cls := "CircuitDesk$Net", name := "close", desc := "(I)I" } : Jvm.MethodName) prog_7_method_35_code (7 : Nat) (Option.some Jvm.ClassFile.FieldType.int)) ∈ lw_all := lw_g (lw_at lw_m7 91 rfl) rfl
theorem q1639 : (Jvm.Cond.methodLink "CircuitDesk$Net" (343 : Nat) ({ cls := "CircuitDesk$Net", name := "isMoving", desc := "(LCircuitDesk$Circuit;)Z" } : Jvm.MethodName)) ∈ lw_all := lw_g (lw_at lw_m7 92 rfl) rfl
theorem q1640 : (Jvm.Cond.methodLink "CircuitDesk$Net" (359 : Nat) ({ cls := "CircuitDesk$Net", name := "packetsOf", desc := "(I)I" } : Jvm.MethodName)) ∈ lw_all := lw_g (lw_at lw_m7 93 rfl) rfl
theorem q1641 : (Jvm.Cond.instanceMethod ({ cls := "CircuitDesk$Net", name := "packetsOf", desc := "(I)I" } : Jvm.MethodName)) ∈ lw_all := lw_g (lw_at lw_m7 94 rfl) rfl
theorem q1642 : (Jvm.Cond.selects "CircuitDesk$Net" ({ cls := "CircuitDesk$Net", name := "packetsOf", desc := "(I)I" } : Jvm.MethodName) ({ cls := "CircuitDesk$Net", name := "packetsOf", desc := "(I)I" } : Jvm.MethodName)) ∈ lw_all := lw_g (lw_at lw_m7 95 rfl) rfl
theorem q1643 : (Jvm.Cond.code ({ cls := "CircuitDesk$Net", name := "packetsOf", desc := "(I)I" } : Jvm.MethodName) prog_7_method_29_code (4 : Nat) (Option.some Jvm.ClassFile.FieldType.int)) ∈ lw_all := lw_g (lw_at lw_m7 96 rfl) rfl
theorem q1644 : (Jvm.Cond.methodLink "CircuitDesk$Net" (49 : Nat) ({ cls := "java/util/ArrayList", name := "iterator", desc := "()Ljava/util/Iterator;" } : Jvm.MethodName)) ∈ lw_all := lw_g (lw_at lw_m7 97 rfl) rfl
theorem q1645 : (Jvm.Cond.interfaceEntry "CircuitDesk$Net" (53 : Nat)) ∈ lw_tbl := lw_at lw_m7 98 rfl
theorem q1646 : (Jvm.Cond.methodLink "CircuitDesk$Net" (53 : Nat) ({ cls := "java/util/Iterator", name := "hasNext", desc := "()Z" } : Jvm.MethodName)) ∈ lw_all := lw_g (lw_at lw_m7 99 rfl) rfl
theorem q1647 : (Jvm.Cond.interfaceEntry "CircuitDesk$Net" (59 : Nat)) ∈ lw_tbl := lw_at lw_m7 100 rfl
theorem q1648 : (Jvm.Cond.methodLink "CircuitDesk$Net" (59 : Nat) ({ cls := "java/util/Iterator", name := "next", desc := "()Ljava/lang/Object;" } : Jvm.MethodName)) ∈ lw_all := lw_g (lw_at lw_m7 101 rfl) rfl
theorem q1649 : (Jvm.Cond.methodLink "CircuitDeskLaw" (186 : Nat) ({ cls := "CircuitDeskLaw", name := "move", desc := "(LCircuitDesk;I[J)I" } : Jvm.MethodName)) ∈ lw_all := lw_g (lw_at lw_m7 102 rfl) rfl
theorem q1650 : (Jvm.Cond.static ({ cls := "CircuitDeskLaw", name := "move", desc := "(LCircuitDesk;I[J)I" } : Jvm.MethodName)) ∈ lw_all := lw_g (lw_at lw_m7 103 rfl) rfl
theorem q1651 : (Jvm.Cond.codeWith ({ cls := "CircuitDeskLaw", name := "move", desc := "(LCircuitDesk;I[J)I" } : Jvm.MethodName) method_18_code (4 : Nat) (Option.some Jvm.ClassFile.FieldType.int) [((0 : Nat), (9 : Nat), (12 : Nat), (27 : Nat))]) ∈ lw_all := lw_g (lw_at lw_m7 104 rfl) rfl
theorem q1652 : (Jvm.Cond.methodLink "CircuitDeskLaw" (65 : Nat) ({ cls := "CircuitDesk", name := "move", desc := "(I)I" } : Jvm.MethodName)) ∈ lw_all := lw_g (lw_at lw_m7 105 rfl) rfl
theorem q1653 : (Jvm.Cond.instanceMethod ({ cls := "CircuitDesk", name := "move", desc := "(I)I" } : Jvm.MethodName)) ∈ lw_all := lw_g (lw_at lw_m7 106 rfl) rfl
theorem q1654 : (Jvm.Cond.selects "CircuitDesk" ({ cls := "CircuitDesk", name := "move", desc := "(I)I" } : Jvm.MethodName) ({ cls := "CircuitDesk", name := "move", desc := "(I)I" } : Jvm.MethodName)) ∈ lw_all := lw_g (lw_at lw_m7 107 rfl) rfl
theorem q1655 : (Jvm.Cond.code ({ cls := "CircuitDesk", name := "move", desc := "(I)I" } : Jvm.MethodName) prog_1_method_29_code (4 : Nat) (Option.some Jvm.ClassFile.FieldType.int)) ∈ lw_all := lw_g (lw_at lw_m7 108 rfl) rfl
theorem q1656 : (Jvm.Cond.methodLink "CircuitDesk" (270 : Nat) ({ cls := "CircuitDesk$Net", name := "move", desc := "(ILCircuitDesk$Way;)I" } : Jvm.MethodName)) ∈ lw_all := lw_g (lw_at lw_m7 109 rfl) rfl
theorem q1657 : (Jvm.Cond.instanceMethod ({ cls := "CircuitDesk$Net", name := "move", desc := "(ILCircuitDesk$Way;)I" } : Jvm.MethodName)) ∈ lw_all := lw_g (lw_at lw_m7 110 rfl) rfl
theorem q1658 : (Jvm.Cond.selects "CircuitDesk$Net" ({ cls := "CircuitDesk$Net", name := "move", desc := "(ILCircuitDesk$Way;)I" } : Jvm.MethodName) ({ cls := "CircuitDesk$Net", name := "move", desc := "(ILCircuitDesk$Way;)I" } : Jvm.MethodName)) ∈ lw_all := lw_g (lw_at lw_m7 111 rfl) rfl
theorem q1659 : (Jvm.Cond.code ({ cls := "CircuitDesk$Net", name := "move", desc := "(ILCircuitDesk$Way;)I" } : Jvm.MethodName) prog_7_method_33_code (4 : Nat) (Option.some Jvm.ClassFile.FieldType.int)) ∈ lw_all := lw_g (lw_at lw_m7 112 rfl) rfl
theorem q1660 : (Jvm.Cond.methodLink "CircuitDesk$Net" (346 : Nat) ({ cls := "CircuitDesk$Way", name := "last", desc := "()I" } : Jvm.MethodName)) ∈ lw_all := lw_g (lw_at lw_m7 113 rfl) rfl
theorem q1661 : (Jvm.Cond.methodLink "CircuitDesk$Net" (349 : Nat) ({ cls := "CircuitDesk$Way", name := "goes", desc := "(II)Z" } : Jvm.MethodName)) ∈ lw_all := lw_g (lw_at lw_m7 114 rfl) rfl
theorem q1662 : (Jvm.Cond.instanceMethod ({ cls := "CircuitDesk$Way", name := "goes", desc := "(II)Z" } : Jvm.MethodName)) ∈ lw_all := lw_g (lw_at lw_m7 115 rfl) rfl
theorem q1663 : (Jvm.Cond.selects "CircuitDesk$Way" ({ cls := "CircuitDesk$Way", name := "goes", desc := "(II)Z" } : Jvm.MethodName) ({ cls := "CircuitDesk$Way", name := "goes", desc := "(II)Z" } : Jvm.MethodName)) ∈ lw_all := lw_g (lw_at lw_m7 116 rfl) rfl
theorem q1664 : (Jvm.Cond.code ({ cls := "CircuitDesk$Way", name := "goes", desc := "(II)Z" } : Jvm.MethodName) prog_15_method_6_code (3 : Nat) (Option.some Jvm.ClassFile.FieldType.boolean)) ∈ lw_all := lw_g (lw_at lw_m7 117 rfl) rfl
theorem q1665 : (Jvm.Cond.methodLink "CircuitDesk$Net" (352 : Nat) ({ cls := "CircuitDesk$Way", name := "isLike", desc := "(LCircuitDesk$Way;)Z" } : Jvm.MethodName)) ∈ lw_all := lw_g (lw_at lw_m7 118 rfl) rfl
theorem q1666 : (Jvm.Cond.instanceMethod ({ cls := "CircuitDesk$Way", name := "isLike", desc := "(LCircuitDesk$Way;)Z" } : Jvm.MethodName)) ∈ lw_all := lw_g (lw_at lw_m7 119 rfl) rfl
theorem q1667 : (Jvm.Cond.selects "CircuitDesk$Way" ({ cls := "CircuitDesk$Way", name := "isLike", desc := "(LCircuitDesk$Way;)Z" } : Jvm.MethodName) ({ cls := "CircuitDesk$Way", name := "isLike", desc := "(LCircuitDesk$Way;)Z" } : Jvm.MethodName)) ∈ lw_all := lw_g (lw_at lw_m7 120 rfl) rfl
theorem q1668 : (Jvm.Cond.code ({ cls := "CircuitDesk$Way", name := "isLike", desc := "(LCircuitDesk$Way;)Z" } : Jvm.MethodName) prog_15_method_8_code (4 : Nat) (Option.some Jvm.ClassFile.FieldType.boolean)) ∈ lw_all := lw_g (lw_at lw_m7 121 rfl) rfl
theorem q1669 : (Jvm.Cond.methodLink "CircuitDeskLaw" (189 : Nat) ({ cls := "CircuitDeskLaw", name := "moveBest", desc := "(LCircuitDesk;II[J)I" } : Jvm.MethodName)) ∈ lw_all := lw_g (lw_at lw_m7 122 rfl) rfl
theorem q1670 : (Jvm.Cond.static ({ cls := "CircuitDeskLaw", name := "moveBest", desc := "(LCircuitDesk;II[J)I" } : Jvm.MethodName)) ∈ lw_all := lw_g (lw_at lw_m7 123 rfl) rfl
theorem q1671 : (Jvm.Cond.codeWith ({ cls := "CircuitDeskLaw", name := "moveBest", desc := "(LCircuitDesk;II[J)I" } : Jvm.MethodName) method_19_code (5 : Nat) (Option.some Jvm.ClassFile.FieldType.int) [((0 : Nat), (10 : Nat), (13 : Nat), (27 : Nat))]) ∈ lw_all := lw_g (lw_at lw_m7 124 rfl) rfl
theorem q1672 : (Jvm.Cond.methodLink "CircuitDeskLaw" (68 : Nat) ({ cls := "CircuitDesk", name := "moveBest", desc := "(II)I" } : Jvm.MethodName)) ∈ lw_all := lw_g (lw_at lw_m7 125 rfl) rfl
theorem q1673 : (Jvm.Cond.instanceMethod ({ cls := "CircuitDesk", name := "moveBest", desc := "(II)I" } : Jvm.MethodName)) ∈ lw_all := lw_g (lw_at lw_m7 126 rfl) rfl
theorem q1674 : (Jvm.Cond.selects "CircuitDesk" ({ cls := "CircuitDesk", name := "moveBest", desc := "(II)I" } : Jvm.MethodName) ({ cls := "CircuitDesk", name := "moveBest", desc := "(II)I" } : Jvm.MethodName)) ∈ lw_all := lw_g (lw_at lw_m7 127 rfl) rfl
theorem q1675 : (Jvm.Cond.code ({ cls := "CircuitDesk", name := "moveBest", desc := "(II)I" } : Jvm.MethodName) prog_1_method_32_code (3 : Nat) (Option.some Jvm.ClassFile.FieldType.int)) ∈ lw_all := lw_g (lw_at lw_m7 128 rfl) rfl
theorem q1676 : (Jvm.Cond.methodLink "CircuitDesk" (282 : Nat) ({ cls := "CircuitDesk", name := "checkBest", desc := "(II)V" } : Jvm.MethodName)) ∈ lw_all := lw_g (lw_at lw_m7 129 rfl) rfl
theorem q1677 : (Jvm.Cond.privateMethod ({ cls := "CircuitDesk", name := "checkBest", desc := "(II)V" } : Jvm.MethodName)) ∈ lw_tbl := lw_at lw_m7 130 rfl
theorem q1678 : (Jvm.Cond.instanceMethod ({ cls := "CircuitDesk", name := "checkBest", desc := "(II)V" } : Jvm.MethodName)) ∈ lw_all := lw_g (lw_at lw_m7 131 rfl) rfl
theorem q1679 : (Jvm.Cond.code ({ cls := "CircuitDesk", name := "checkBest", desc := "(II)V" } : Jvm.MethodName) prog_1_method_31_code (4 : Nat) (Option.none : Option Jvm.ClassFile.FieldType)) ∈ lw_all := lw_g (lw_at lw_m7 132 rfl) rfl
theorem q1680 : (Jvm.Cond.constantLong "CircuitDesk" (280 : Nat) (-1 : Int64)) ∈ lw_all := lw_g (lw_at lw_m7 133 rfl) rfl
theorem q1681 : (Jvm.Cond.methodLink "CircuitDesk" (286 : Nat) ({ cls := "CircuitDesk", name := "moveBest", desc := "(LCircuitDesk$Net;II)I" } : Jvm.MethodName)) ∈ lw_all := lw_g (lw_at lw_m7 134 rfl) rfl
theorem q1682 : (Jvm.Cond.static ({ cls := "CircuitDesk", name := "moveBest", desc := "(LCircuitDesk$Net;II)I" } : Jvm.MethodName)) ∈ lw_all := lw_g (lw_at lw_m7 135 rfl) rfl
theorem q1683 : (Jvm.Cond.code ({ cls := "CircuitDesk", name := "moveBest", desc := "(LCircuitDesk$Net;II)I" } : Jvm.MethodName) prog_1_method_30_code (4 : Nat) (Option.some Jvm.ClassFile.FieldType.int)) ∈ lw_all := lw_g (lw_at lw_m7 136 rfl) rfl
theorem q1684 : (Jvm.Cond.methodLink "CircuitDeskLaw" (192 : Nat) ({ cls := "CircuitDeskLaw", name := "abort", desc := "(LCircuitDesk;I[J)I" } : Jvm.MethodName)) ∈ lw_all := lw_g (lw_at lw_m7 137 rfl) rfl
theorem q1685 : (Jvm.Cond.static ({ cls := "CircuitDeskLaw", name := "abort", desc := "(LCircuitDesk;I[J)I" } : Jvm.MethodName)) ∈ lw_all := lw_g (lw_at lw_m7 138 rfl) rfl
theorem q1686 : (Jvm.Cond.codeWith ({ cls := "CircuitDeskLaw", name := "abort", desc := "(LCircuitDesk;I[J)I" } : Jvm.MethodName) method_20_code (4 : Nat) (Option.some Jvm.ClassFile.FieldType.int) [((0 : Nat), (9 : Nat), (12 : Nat), (27 : Nat))]) ∈ lw_all := lw_g (lw_at lw_m7 139 rfl) rfl
theorem q1687 : (Jvm.Cond.methodLink "CircuitDeskLaw" (71 : Nat) ({ cls := "CircuitDesk", name := "abort", desc := "(I)I" } : Jvm.MethodName)) ∈ lw_all := lw_g (lw_at lw_m7 140 rfl) rfl
theorem q1688 : (Jvm.Cond.instanceMethod ({ cls := "CircuitDesk", name := "abort", desc := "(I)I" } : Jvm.MethodName)) ∈ lw_all := lw_g (lw_at lw_m7 141 rfl) rfl
theorem q1689 : (Jvm.Cond.selects "CircuitDesk" ({ cls := "CircuitDesk", name := "abort", desc := "(I)I" } : Jvm.MethodName) ({ cls := "CircuitDesk", name := "abort", desc := "(I)I" } : Jvm.MethodName)) ∈ lw_all := lw_g (lw_at lw_m7 142 rfl) rfl
theorem q1690 : (Jvm.Cond.code ({ cls := "CircuitDesk", name := "abort", desc := "(I)I" } : Jvm.MethodName) prog_1_method_33_code (3 : Nat) (Option.some Jvm.ClassFile.FieldType.int)) ∈ lw_all := lw_g (lw_at lw_m7 143 rfl) rfl
theorem q1691 : (Jvm.Cond.methodLink "CircuitDesk" (290 : Nat) ({ cls := "CircuitDesk$Net", name := "abort", desc := "(I)I" } : Jvm.MethodName)) ∈ lw_all := lw_g (lw_at lw_m7 144 rfl) rfl
theorem q1692 : (Jvm.Cond.instanceMethod ({ cls := "CircuitDesk$Net", name := "abort", desc := "(I)I" } : Jvm.MethodName)) ∈ lw_all := lw_g (lw_at lw_m7 145 rfl) rfl
theorem q1693 : (Jvm.Cond.selects "CircuitDesk$Net" ({ cls := "CircuitDesk$Net", name := "abort", desc := "(I)I" } : Jvm.MethodName) ({ cls := "CircuitDesk$Net", name := "abort", desc := "(I)I" } : Jvm.MethodName)) ∈ lw_all := lw_g (lw_at lw_m7 146 rfl) rfl
theorem q1694 : (Jvm.Cond.code ({ cls := "CircuitDesk$Net", name := "abort", desc := "(I)I" } : Jvm.MethodName) prog_7_method_34_code (3 : Nat) (Option.some Jvm.ClassFile.FieldType.int)) ∈ lw_all := lw_g (lw_at lw_m7 147 rfl) rfl
theorem q1695 : (Jvm.Cond.methodLink "CircuitDeskLaw" (195 : Nat) ({ cls := "CircuitDeskLaw", name := "offer", desc := "(LCircuitDesk;II[J)I" } : Jvm.MethodName)) ∈ lw_all := lw_g (lw_at lw_m7 148 rfl) rfl
theorem q1696 : (Jvm.Cond.static ({ cls := "CircuitDeskLaw", name := "offer", desc := "(LCircuitDesk;II[J)I" } : Jvm.MethodName)) ∈ lw_all := lw_g (lw_at lw_m7 149 rfl) rfl
theorem q1697 : (Jvm.Cond.codeWith ({ cls := "CircuitDeskLaw", name := "offer", desc := "(LCircuitDesk;II[J)I" } : Jvm.MethodName) method_21_code (5 : Nat) (Option.some Jvm.ClassFile.FieldType.int) [((0 : Nat), (10 : Nat), (13 : Nat), (27 : Nat)), ((0 : Nat), (10 : Nat), (17 : Nat), (18 : Nat))]) ∈ lw_all := lw_g (lw_at lw_m7 150 rfl) rfl
theorem q1698 : (Jvm.Cond.methodLink "CircuitDeskLaw" (74 : Nat) ({ cls := "CircuitDesk", name := "offer", desc := "(II)I" } : Jvm.MethodName)) ∈ lw_all := lw_g (lw_at lw_m7 151 rfl) rfl
theorem q1699 : (Jvm.Cond.instanceMethod ({ cls := "CircuitDesk", name := "offer", desc := "(II)I" } : Jvm.MethodName)) ∈ lw_all := lw_g (lw_at lw_m7 152 rfl) rfl
theorem q1700 : (Jvm.Cond.selects "CircuitDesk" ({ cls := "CircuitDesk", name := "offer", desc := "(II)I" } : Jvm.MethodName) ({ cls := "CircuitDesk", name := "offer", desc := "(II)I" } : Jvm.MethodName)) ∈ lw_all := lw_g (lw_at lw_m7 153 rfl) rfl
theorem q1701 : (Jvm.Cond.code ({ cls := "CircuitDesk", name := "offer", desc := "(II)I" } : Jvm.MethodName) prog_1_method_34_code (4 : Nat) (Option.some Jvm.ClassFile.FieldType.int)) ∈ lw_all := lw_g (lw_at lw_m7 154 rfl) rfl
theorem q1702 : (Jvm.Cond.methodLink "CircuitDesk" (293 : Nat) ({ cls := "CircuitDesk$Circuit", name := "offer", desc := "(I)I" } : Jvm.MethodName)) ∈ lw_all := lw_g (lw_at lw_m7 155 rfl) rfl
theorem q1703 : (Jvm.Cond.instanceMethod ({ cls := "CircuitDesk$Circuit", name := "offer", desc := "(I)I" } : Jvm.MethodName)) ∈ lw_all := lw_g (lw_at lw_m7 156 rfl) rfl
theorem q1704 : (Jvm.Cond.selects "CircuitDesk$Circuit" ({ cls := "CircuitDesk$Circuit", name := "offer", desc := "(I)I" } : Jvm.MethodName) ({ cls := "CircuitDesk$Circuit", name := "offer", desc := "(I)I" } : Jvm.MethodName)) ∈ lw_all := lw_g (lw_at lw_m7 157 rfl) rfl
theorem q1705 : (Jvm.Cond.code ({ cls := "CircuitDesk$Circuit", name := "offer", desc := "(I)I" } : Jvm.MethodName) prog_3_method_5_code (3 : Nat) (Option.some Jvm.ClassFile.FieldType.int)) ∈ lw_all := lw_g (lw_at lw_m7 158 rfl) rfl
theorem q1706 : (Jvm.Cond.methodLink "CircuitDesk$Circuit" (68 : Nat) ({ cls := "java/lang/Math", name := "min", desc := "(II)I" } : Jvm.MethodName)) ∈ lw_all := lw_g (lw_at lw_m7 159 rfl) rfl
theorem q1707 : (Jvm.Cond.methodLink "CircuitDeskLaw" (198 : Nat) ({ cls := "CircuitDeskLaw", name := "run", desc := "(LCircuitDesk;I[J)I" } : Jvm.MethodName)) ∈ lw_all := lw_g (lw_at lw_m7 160 rfl) rfl
theorem q1708 : (Jvm.Cond.static ({ cls := "CircuitDeskLaw", name := "run", desc := "(LCircuitDesk;I[J)I" } : Jvm.MethodName)) ∈ lw_all := lw_g (lw_at lw_m7 161 rfl) rfl
theorem q1709 : (Jvm.Cond.codeWith ({ cls := "CircuitDeskLaw", name := "run", desc := "(LCircuitDesk;I[J)I" } : Jvm.MethodName) method_22_code (4 : Nat) (Option.some Jvm.ClassFile.FieldType.int) [((0 : Nat), (9 : Nat), (12 : Nat), (18 : Nat))]) ∈ lw_all := lw_g (lw_at lw_m7 162 rfl) rfl
theorem q1710 : (Jvm.Cond.methodLink "CircuitDeskLaw" (77 : Nat) ({ cls := "CircuitDesk", name := "run", desc := "(I)I" } : Jvm.MethodName)) ∈ lw_all := lw_g (lw_at lw_m7 163 rfl) rfl
theorem q1711 : (Jvm.Cond.instanceMethod ({ cls := "CircuitDesk", name := "run", desc := "(I)I" } : Jvm.MethodName)) ∈ lw_all := lw_g (lw_at lw_m7 164 rfl) rfl
theorem q1712 : (Jvm.Cond.selects "CircuitDesk" ({ cls := "CircuitDesk", name := "run", desc := "(I)I" } : Jvm.MethodName) ({ cls := "CircuitDesk", name := "run", desc := "(I)I" } : Jvm.MethodName)) ∈ lw_all := lw_g (lw_at lw_m7 165 rfl) rfl
theorem q1713 : (Jvm.Cond.code ({ cls := "CircuitDesk", name := "run", desc := "(I)I" } : Jvm.MethodName) prog_1_method_36_code (3 : Nat) (Option.some Jvm.ClassFile.FieldType.int)) ∈ lw_all := lw_g (lw_at lw_m7 166 rfl) rfl
theorem q1714 : (Jvm.Cond.methodLink "CircuitDesk" (301 : Nat) ({ cls := "CircuitDesk", name := "checkTicks", desc := "(I)V" } : Jvm.MethodName)) ∈ lw_all := lw_g (lw_at lw_m7 167 rfl) rfl
theorem q1715 : (Jvm.Cond.static ({ cls := "CircuitDesk", name := "checkTicks", desc := "(I)V" } : Jvm.MethodName)) ∈ lw_all := lw_g (lw_at lw_m7 168 rfl) rfl
theorem q1716 : (Jvm.Cond.code ({ cls := "CircuitDesk", name := "checkTicks", desc := "(I)V" } : Jvm.MethodName) prog_1_method_35_code (1 : Nat) (Option.none : Option Jvm.ClassFile.FieldType)) ∈ lw_all := lw_g (lw_at lw_m7 169 rfl) rfl
theorem q1717 : (Jvm.Cond.constantLong "CircuitDesk" (299 : Nat) (200 : Int64)) ∈ lw_all := lw_g (lw_at lw_m7 170 rfl) rfl
theorem q1718 : (Jvm.Cond.methodLink "CircuitDesk" (304 : Nat) ({ cls := "CircuitDesk$Net", name := "run", desc := "(I)V" } : Jvm.MethodName)) ∈ lw_all := lw_g (lw_at lw_m7 171 rfl) rfl
theorem q1719 : (Jvm.Cond.instanceMethod ({ cls := "CircuitDesk$Net", name := "run", desc := "(I)V" } : Jvm.MethodName)) ∈ lw_all := lw_g (lw_at lw_m7 172 rfl) rfl
theorem q1720 : (Jvm.Cond.selects "CircuitDesk$Net" ({ cls := "CircuitDesk$Net", name := "run", desc := "(I)V" } : Jvm.MethodName) ({ cls := "CircuitDesk$Net", name := "run", desc := "(I)V" } : Jvm.MethodName)) ∈ lw_all := lw_g (lw_at lw_m7 173 rfl) rfl
theorem q1721 : (Jvm.Cond.code ({ cls := "CircuitDesk$Net", name := "run", desc := "(I)V" } : Jvm.MethodName) prog_7_method_27_code (3 : Nat) (Option.none : Option Jvm.ClassFile.FieldType)) ∈ lw_all := lw_g (lw_at lw_m7 174 rfl) rfl
theorem q1722 : (Jvm.Cond.methodLink "CircuitDesk$Net" (325 : Nat) ({ cls := "CircuitDesk$Net", name := "tick", desc := "()V" } : Jvm.MethodName)) ∈ lw_all := lw_g (lw_at lw_m7 175 rfl) rfl
theorem q1723 : (Jvm.Cond.instanceMethod ({ cls := "CircuitDesk$Net", name := "tick", desc := "()V" } : Jvm.MethodName)) ∈ lw_all := lw_g (lw_at lw_m7 176 rfl) rfl
theorem q1724 : (Jvm.Cond.selects "CircuitDesk$Net" ({ cls := "CircuitDesk$Net", name := "tick", desc := "()V" } : Jvm.MethodName) ({ cls := "CircuitDesk$Net", name := "tick", desc := "()V" } : Jvm.MethodName)) ∈ lw_all := lw_g (lw_at lw_m7 177 rfl) rfl
theorem q1725 : (Jvm.Cond.code ({ cls := "CircuitDesk$Net", name := "tick", desc := "()V" } : Jvm.MethodName) prog_7_method_26_code (3 : Nat) (Option.none : Option Jvm.ClassFile.FieldType)) ∈ lw_all := lw_g (lw_at lw_m7 178 rfl) rfl
theorem q1726 : (Jvm.Cond.methodLink "CircuitDesk$Net" (312 : Nat) ({ cls := "CircuitDesk$Net", name := "runPackets", desc := "()V" } : Jvm.MethodName)) ∈ lw_all := lw_g (lw_at lw_m7 179 rfl) rfl
theorem q1727 : (Jvm.Cond.privateMethod ({ cls := "CircuitDesk$Net", name := "runPackets", desc := "()V" } : Jvm.MethodName)) ∈ lw_tbl := lw_at lw_m7 180 rfl
theorem q1728 : (Jvm.Cond.instanceMethod ({ cls := "CircuitDesk$Net", name := "runPackets", desc := "()V" } : Jvm.MethodName)) ∈ lw_all := lw_g (lw_at lw_m7 181 rfl) rfl
theorem q1729 : (Jvm.Cond.code ({ cls := "CircuitDesk$Net", name := "runPackets", desc := "()V" } : Jvm.MethodName) prog_7_method_23_code (4 : Nat) (Option.none : Option Jvm.ClassFile.FieldType)) ∈ lw_all := lw_g (lw_at lw_m7 182 rfl) rfl
theorem q1730 : (Jvm.Cond.methodLink "CircuitDesk$Net" (282 : Nat) ({ cls := "CircuitDesk$Net", name := "arrive", desc := "(LCircuitDesk$Packet;)Z" } : Jvm.MethodName)) ∈ lw_all := lw_g (lw_at lw_m7 183 rfl) rfl
theorem q1731 : (Jvm.Cond.privateMethod ({ cls := "CircuitDesk$Net", name := "arrive", desc := "(LCircuitDesk$Packet;)Z" } : Jvm.MethodName)) ∈ lw_tbl := lw_at lw_m7 184 rfl
theorem q1732 : (Jvm.Cond.instanceMethod ({ cls := "CircuitDesk$Net", name := "arrive", desc := "(LCircuitDesk$Packet;)Z" } : Jvm.MethodName)) ∈ lw_all := lw_g (lw_at lw_m7 185 rfl) rfl
theorem q1733 : (Jvm.Cond.code ({ cls := "CircuitDesk$Net", name := "arrive", desc := "(LCircuitDesk$Packet;)Z" } : Jvm.MethodName) prog_7_method_22_code (6 : Nat) (Option.some Jvm.ClassFile.FieldType.boolean)) ∈ lw_all := lw_g (lw_at lw_m7 186 rfl) rfl
theorem q1734 : (Jvm.Cond.methodLink "CircuitDesk$Net" (267 : Nat) ({ cls := "CircuitDesk$Circuit", name := "of", desc := "(Z)LCircuitDesk$Way;" } : Jvm.MethodName)) ∈ lw_all := lw_g (lw_at lw_m7 187 rfl) rfl
theorem q1735 : (Jvm.Cond.instanceMethod ({ cls := "CircuitDesk$Circuit", name := "of", desc := "(Z)LCircuitDesk$Way;" } : Jvm.MethodName)) ∈ lw_all := lw_g (lw_at lw_m7 188 rfl) rfl
theorem q1736 : (Jvm.Cond.selects "CircuitDesk$Circuit" ({ cls := "CircuitDesk$Circuit", name := "of", desc := "(Z)LCircuitDesk$Way;" } : Jvm.MethodName) ({ cls := "CircuitDesk$Circuit", name := "of", desc := "(Z)LCircuitDesk$Way;" } : Jvm.MethodName)) ∈ lw_all := lw_g (lw_at lw_m7 189 rfl) rfl
theorem q1737 : (Jvm.Cond.code ({ cls := "CircuitDesk$Circuit", name := "of", desc := "(Z)LCircuitDesk$Way;" } : Jvm.MethodName) prog_3_method_4_code (2 : Nat) (Option.some (Jvm.ClassFile.FieldType.object "CircuitDesk$Way"))) ∈ lw_all := lw_g (lw_at lw_m7 190 rfl) rfl
theorem q1738 : (Jvm.Cond.methodLink "CircuitDesk$Net" (271 : Nat) ({ cls := "CircuitDesk$Way", name := "indexOf", desc := "(I)I" } : Jvm.MethodName)) ∈ lw_all := lw_g (lw_at lw_m7 191 rfl) rfl
theorem q1739 : (Jvm.Cond.methodLink "CircuitDesk$Net" (274 : Nat) ({ cls := "CircuitDesk$Net", name := "deliver", desc := "(LCircuitDesk$Packet;LCircuitDesk$Circuit;)V" } : Jvm.MethodName)) ∈ lw_all := lw_g (lw_at lw_m7 192 rfl) rfl
theorem q1740 : (Jvm.Cond.privateMethod ({ cls := "CircuitDesk$Net", name := "deliver", desc := "(LCircuitDesk$Packet;LCircuitDesk$Circuit;)V" } : Jvm.MethodName)) ∈ lw_tbl := lw_at lw_m7 193 rfl
theorem q1741 : (Jvm.Cond.instanceMethod ({ cls := "CircuitDesk$Net", name := "deliver", desc := "(LCircuitDesk$Packet;LCircuitDesk$Circuit;)V" } : Jvm.MethodName)) ∈ lw_all := lw_g (lw_at lw_m7 194 rfl) rfl
theorem q1742 : (Jvm.Cond.code ({ cls := "CircuitDesk$Net", name := "deliver", desc := "(LCircuitDesk$Packet;LCircuitDesk$Circuit;)V" } : Jvm.MethodName) prog_7_method_21_code (4 : Nat) (Option.none : Option Jvm.ClassFile.FieldType)) ∈ lw_all := lw_g (lw_at lw_m7 195 rfl) rfl
theorem q1743 : (Jvm.Cond.methodLink "CircuitDesk$Net" (257 : Nat) ({ cls := "java/lang/Math", name := "max", desc := "(II)I" } : Jvm.MethodName)) ∈ lw_all := lw_g (lw_at lw_m7 196 rfl) rfl
theorem q1744 : (Jvm.Cond.methodLink "CircuitDesk$Net" (278 : Nat) ({ cls := "CircuitDesk$Net", name := "goesOn", desc := "(LCircuitDesk$Packet;LCircuitDesk$Way;I)Z" } : Jvm.MethodName)) ∈ lw_all := lw_g (lw_at lw_m7 197 rfl) rfl
theorem q1745 : (Jvm.Cond.privateMethod ({ cls := "CircuitDesk$Net", name := "goesOn", desc := "(LCircuitDesk$Packet;LCircuitDesk$Way;I)Z" } : Jvm.MethodName)) ∈ lw_tbl := lw_at lw_m7 198 rfl
theorem q1746 : (Jvm.Cond.instanceMethod ({ cls := "CircuitDesk$Net", name := "goesOn", desc := "(LCircuitDesk$Packet;LCircuitDesk$Way;I)Z" } : Jvm.MethodName)) ∈ lw_all := lw_g (lw_at lw_m7 199 rfl) rfl
theorem q1747 : (Jvm.Cond.code ({ cls := "CircuitDesk$Net", name := "goesOn", desc := "(LCircuitDesk$Packet;LCircuitDesk$Way;I)Z" } : Jvm.MethodName) prog_7_method_20_code (5 : Nat) (Option.some Jvm.ClassFile.FieldType.boolean)) ∈ lw_all := lw_g (lw_at lw_m7 200 rfl) rfl
theorem q1748 : (Jvm.Cond.interfaceEntry "CircuitDesk$Net" (318 : Nat)) ∈ lw_tbl := lw_at lw_m7 201 rfl
theorem q1749 : (Jvm.Cond.methodLink "CircuitDesk$Net" (318 : Nat) ({ cls := "CircuitDesk$Phase", name := "tick", desc := "(LCircuitDesk$Net;I)V" } : Jvm.MethodName)) ∈ lw_all := lw_g (lw_at lw_m7 202 rfl) rfl
theorem q1750 : (Jvm.Cond.interfaceMethod "CircuitDesk$Phase" "CircuitDesk$Phase" "tick" "(LCircuitDesk$Net;I)V") ∈ lw_tbl := lw_at lw_m7 203 rfl
theorem q1751 : (Jvm.Cond.declares ({ cls := "CircuitDesk$Phase", name := "tick", desc := "(LCircuitDesk$Net;I)V" } : Jvm.MethodName)) ∈ lw_tbl := lw_at lw_m7 204 rfl
theorem q1752 : (Jvm.Cond.selects "CircuitDesk$Building" ({ cls := "CircuitDesk$Phase", name := "tick", desc := "(LCircuitDesk$Net;I)V" } : Jvm.MethodName) ({ cls := "CircuitDesk$Building", name := "tick", desc := "(LCircuitDesk$Net;I)V" } : Jvm.MethodName)) ∈ lw_all := lw_g (lw_at lw_m7 205 rfl) rfl
theorem q1753 : (Jvm.Cond.unhidden "CircuitDesk$Building" "tick" "(LCircuitDesk$Net;I)V") ∈ lw_tbl := lw_at lw_m7 206 rfl
theorem q1754 : (Jvm.Cond.instanceMethod ({ cls := "CircuitDesk$Building", name := "tick", desc := "(LCircuitDesk$Net;I)V" } : Jvm.MethodName)) ∈ lw_all := lw_g (lw_at lw_m7 207 rfl) rfl
theorem q1755 : (Jvm.Cond.publicMethod ({ cls := "CircuitDesk$Building", name := "tick", desc := "(LCircuitDesk$Net;I)V" } : Jvm.MethodName)) ∈ lw_tbl := lw_at lw_m7 208 rfl
theorem q1756 : (Jvm.Cond.code ({ cls := "CircuitDesk$Building", name := "tick", desc := "(LCircuitDesk$Net;I)V" } : Jvm.MethodName) prog_2_method_2_code (5 : Nat) (Option.none : Option Jvm.ClassFile.FieldType)) ∈ lw_all := lw_g (lw_at lw_m7 209 rfl) rfl
theorem q1757 : (Jvm.Cond.methodLink "CircuitDesk$Building" (15 : Nat) ({ cls := "java/util/ArrayList", name := "get", desc := "(I)Ljava/lang/Object;" } : Jvm.MethodName)) ∈ lw_all := lw_g (lw_at lw_m7 210 rfl) rfl
theorem q1758 : (Jvm.Cond.classLink "CircuitDesk$Building" (21 : Nat) "CircuitDesk$Circuit") ∈ lw_all := lw_g (lw_at lw_m7 211 rfl) rfl
theorem q1759 : (Jvm.Cond.methodLink "CircuitDesk$Building" (39 : Nat) ({ cls := "CircuitDesk$Net", name := "delayOf", desc := "(LCircuitDesk$Way;)I" } : Jvm.MethodName)) ∈ lw_all := lw_g (lw_at lw_m7 212 rfl) rfl
theorem q1760 : (Jvm.Cond.instanceMethod ({ cls := "CircuitDesk$Net", name := "delayOf", desc := "(LCircuitDesk$Way;)I" } : Jvm.MethodName)) ∈ lw_all := lw_g (lw_at lw_m7 213 rfl) rfl
theorem q1761 : (Jvm.Cond.selects "CircuitDesk$Net" ({ cls := "CircuitDesk$Net", name := "delayOf", desc := "(LCircuitDesk$Way;)I" } : Jvm.MethodName) ({ cls := "CircuitDesk$Net", name := "delayOf", desc := "(LCircuitDesk$Way;)I" } : Jvm.MethodName)) ∈ lw_all := lw_g (lw_at lw_m7 214 rfl) rfl
theorem q1762 : (Jvm.Cond.code ({ cls := "CircuitDesk$Net", name := "delayOf", desc := "(LCircuitDesk$Way;)I" } : Jvm.MethodName) prog_7_method_6_code (4 : Nat) (Option.some Jvm.ClassFile.FieldType.int)) ∈ lw_all := lw_g (lw_at lw_m7 215 rfl) rfl
theorem q1763 : (Jvm.Cond.methodLink "CircuitDesk$Building" (53 : Nat) ({ cls := "java/lang/Math", name := "max", desc := "(II)I" } : Jvm.MethodName)) ∈ lw_all := lw_g (lw_at lw_m7 216 rfl) rfl
theorem q1764 : (Jvm.Cond.methodLink "CircuitDesk$Building" (62 : Nat) ({ cls := "CircuitDesk$Net", name := "make", desc := "(LCircuitDesk$Way;I)V" } : Jvm.MethodName)) ∈ lw_all := lw_g (lw_at lw_m7 217 rfl) rfl
theorem q1765 : (Jvm.Cond.selects "CircuitDesk$Clearing" ({ cls := "CircuitDesk$Phase", name := "tick", desc := "(LCircuitDesk$Net;I)V" } : Jvm.MethodName) ({ cls := "CircuitDesk$Clearing", name := "tick", desc := "(LCircuitDesk$Net;I)V" } : Jvm.MethodName)) ∈ lw_all := lw_g (lw_at lw_m7 218 rfl) rfl
theorem q1766 : (Jvm.Cond.unhidden "CircuitDesk$Clearing" "tick" "(LCircuitDesk$Net;I)V") ∈ lw_tbl := lw_at lw_m7 219 rfl
theorem q1767 : (Jvm.Cond.instanceMethod ({ cls := "CircuitDesk$Clearing", name := "tick", desc := "(LCircuitDesk$Net;I)V" } : Jvm.MethodName)) ∈ lw_all := lw_g (lw_at lw_m7 220 rfl) rfl
theorem q1768 : (Jvm.Cond.publicMethod ({ cls := "CircuitDesk$Clearing", name := "tick", desc := "(LCircuitDesk$Net;I)V" } : Jvm.MethodName)) ∈ lw_tbl := lw_at lw_m7 221 rfl
theorem q1769 : (Jvm.Cond.code ({ cls := "CircuitDesk$Clearing", name := "tick", desc := "(LCircuitDesk$Net;I)V" } : Jvm.MethodName) prog_4_method_2_code (4 : Nat) (Option.none : Option Jvm.ClassFile.FieldType)) ∈ lw_all := lw_g (lw_at lw_m7 222 rfl) rfl
theorem q1770 : (Jvm.Cond.methodLink "CircuitDesk$Clearing" (15 : Nat) ({ cls := "java/util/ArrayList", name := "get", desc := "(I)Ljava/lang/Object;" } : Jvm.MethodName)) ∈ lw_all := lw_g (lw_at lw_m7 223 rfl) rfl
theorem q1771 : (Jvm.Cond.classLink "CircuitDesk$Clearing" (21 : Nat) "CircuitDesk$Circuit") ∈ lw_all := lw_g (lw_at lw_m7 224 rfl) rfl
theorem q1772 : (Jvm.Cond.methodLink "CircuitDesk$Clearing" (31 : Nat) ({ cls := "CircuitDesk$Net", name := "giveUp", desc := "(LCircuitDesk$Way;I)V" } : Jvm.MethodName)) ∈ lw_all := lw_g (lw_at lw_m7 225 rfl) rfl
theorem q1773 : (Jvm.Cond.methodLink "CircuitDesk$Clearing" (43 : Nat) ({ cls := "CircuitDesk$Net", name := "markOld", desc := "(LCircuitDesk$Way;)V" } : Jvm.MethodName)) ∈ lw_all := lw_g (lw_at lw_m7 226 rfl) rfl
theorem q1774 : (Jvm.Cond.instanceMethod ({ cls := "CircuitDesk$Net", name := "markOld", desc := "(LCircuitDesk$Way;)V" } : Jvm.MethodName)) ∈ lw_all := lw_g (lw_at lw_m7 227 rfl) rfl
theorem q1775 : (Jvm.Cond.selects "CircuitDesk$Net" ({ cls := "CircuitDesk$Net", name := "markOld", desc := "(LCircuitDesk$Way;)V" } : Jvm.MethodName) ({ cls := "CircuitDesk$Net", name := "markOld", desc := "(LCircuitDesk$Way;)V" } : Jvm.MethodName)) ∈ lw_all := lw_g (lw_at lw_m7 228 rfl) rfl
theorem q1776 : (Jvm.Cond.code ({ cls := "CircuitDesk$Net", name := "markOld", desc := "(LCircuitDesk$Way;)V" } : Jvm.MethodName) prog_7_method_17_code (3 : Nat) (Option.none : Option Jvm.ClassFile.FieldType)) ∈ lw_all := lw_g (lw_at lw_m7 229 rfl) rfl
theorem q1777 : (Jvm.Cond.selects "CircuitDesk$Draining" ({ cls := "CircuitDesk$Phase", name := "tick", desc := "(LCircuitDesk$Net;I)V" } : Jvm.MethodName) ({ cls := "CircuitDesk$Draining", name := "tick", desc := "(LCircuitDesk$Net;I)V" } : Jvm.MethodName)) ∈ lw_all := lw_g (lw_at lw_m7 230 rfl) rfl
theorem q1778 : (Jvm.Cond.unhidden "CircuitDesk$Draining" "tick" "(LCircuitDesk$Net;I)V") ∈ lw_tbl := lw_at lw_m7 231 rfl
theorem q1779 : (Jvm.Cond.instanceMethod ({ cls := "CircuitDesk$Draining", name := "tick", desc := "(LCircuitDesk$Net;I)V" } : Jvm.MethodName)) ∈ lw_all := lw_g (lw_at lw_m7 232 rfl) rfl
theorem q1780 : (Jvm.Cond.publicMethod ({ cls := "CircuitDesk$Draining", name := "tick", desc := "(LCircuitDesk$Net;I)V" } : Jvm.MethodName)) ∈ lw_tbl := lw_at lw_m7 233 rfl
theorem q1781 : (Jvm.Cond.code ({ cls := "CircuitDesk$Draining", name := "tick", desc := "(LCircuitDesk$Net;I)V" } : Jvm.MethodName) prog_5_method_2_code (4 : Nat) (Option.none : Option Jvm.ClassFile.FieldType)) ∈ lw_all := lw_g (lw_at lw_m7 234 rfl) rfl
theorem q1782 : (Jvm.Cond.methodLink "CircuitDesk$Draining" (15 : Nat) ({ cls := "java/util/ArrayList", name := "get", desc := "(I)Ljava/lang/Object;" } : Jvm.MethodName)) ∈ lw_all := lw_g (lw_at lw_m7 235 rfl) rfl
theorem q1783 : (Jvm.Cond.classLink "CircuitDesk$Draining" (21 : Nat) "CircuitDesk$Circuit") ∈ lw_all := lw_g (lw_at lw_m7 236 rfl) rfl
theorem q1784 : (Jvm.Cond.selects "CircuitDesk$Resting" ({ cls := "CircuitDesk$Phase", name := "tick", desc := "(LCircuitDesk$Net;I)V" } : Jvm.MethodName) ({ cls := "CircuitDesk$Resting", name := "tick", desc := "(LCircuitDesk$Net;I)V" } : Jvm.MethodName)) ∈ lw_all := lw_g (lw_at lw_m7 237 rfl) rfl
theorem q1785 : (Jvm.Cond.unhidden "CircuitDesk$Resting" "tick" "(LCircuitDesk$Net;I)V") ∈ lw_tbl := lw_at lw_m7 238 rfl
theorem q1786 : (Jvm.Cond.instanceMethod ({ cls := "CircuitDesk$Resting", name := "tick", desc := "(LCircuitDesk$Net;I)V" } : Jvm.MethodName)) ∈ lw_all := lw_g (lw_at lw_m7 239 rfl) rfl
theorem q1787 : (Jvm.Cond.publicMethod ({ cls := "CircuitDesk$Resting", name := "tick", desc := "(LCircuitDesk$Net;I)V" } : Jvm.MethodName)) ∈ lw_tbl := lw_at lw_m8 0 rfl
theorem q1788 : (Jvm.Cond.code ({ cls := "CircuitDesk$Resting", name := "tick", desc := "(LCircuitDesk$Net;I)V" } : Jvm.MethodName) prog_12_method_2_code (3 : Nat) (Option.none : Option Jvm.ClassFile.FieldType)) ∈ lw_all := lw_g (lw_at lw_m8 1 rfl) rfl
theorem q1789 : (Jvm.Cond.methodLink "CircuitDesk$Net" (322 : Nat) ({ cls := "CircuitDesk$Net", name := "sendAll", desc := "()V" } : Jvm.MethodName)) ∈ lw_all := lw_g (lw_at lw_m8 2 rfl) rfl
theorem q1790 : (Jvm.Cond.privateMethod ({ cls := "CircuitDesk$Net", name := "sendAll", desc := "()V" } : Jvm.MethodName)) ∈ lw_tbl := lw_at lw_m8 3 rfl
theorem q1791 : (Jvm.Cond.instanceMethod ({ cls := "CircuitDesk$Net", name := "sendAll", desc := "()V" } : Jvm.MethodName)) ∈ lw_all := lw_g (lw_at lw_m8 4 rfl) rfl
theorem q1792 : (Jvm.Cond.code ({ cls := "CircuitDesk$Net", name := "sendAll", desc := "()V" } : Jvm.MethodName) prog_7_method_25_code (3 : Nat) (Option.none : Option Jvm.ClassFile.FieldType)) ∈ lw_all := lw_g (lw_at lw_m8 5 rfl) rfl
theorem q1793 : (Jvm.Cond.methodLink "CircuitDesk$Net" (303 : Nat) ({ cls := "CircuitDesk$Circuit", name := "offer", desc := "(I)I" } : Jvm.MethodName)) ∈ lw_all := lw_g (lw_at lw_m8 6 rfl) rfl
theorem q1794 : (Jvm.Cond.methodLink "CircuitDesk$Net" (309 : Nat) ({ cls := "CircuitDesk$Net", name := "send", desc := "(I)V" } : Jvm.MethodName)) ∈ lw_all := lw_g (lw_at lw_m8 7 rfl) rfl
theorem q1795 : (Jvm.Cond.privateMethod ({ cls := "CircuitDesk$Net", name := "send", desc := "(I)V" } : Jvm.MethodName)) ∈ lw_tbl := lw_at lw_m8 8 rfl
theorem q1796 : (Jvm.Cond.instanceMethod ({ cls := "CircuitDesk$Net", name := "send", desc := "(I)V" } : Jvm.MethodName)) ∈ lw_all := lw_g (lw_at lw_m8 9 rfl) rfl
theorem q1797 : (Jvm.Cond.code ({ cls := "CircuitDesk$Net", name := "send", desc := "(I)V" } : Jvm.MethodName) prog_7_method_24_code (4 : Nat) (Option.none : Option Jvm.ClassFile.FieldType)) ∈ lw_all := lw_g (lw_at lw_m8 10 rfl) rfl
theorem q1798 : (Jvm.Cond.instantiable "CircuitDesk$Packet" (8 : Nat)) ∈ lw_all := lw_g (lw_at lw_m8 11 rfl) rfl
theorem q1799 : (Jvm.Cond.methodLink "CircuitDesk$Net" (293 : Nat) ({ cls := "CircuitDesk$Packet", name := "<init>", desc := "(III)V" } : Jvm.MethodName)) ∈ lw_all := lw_g (lw_at lw_m8 12 rfl) rfl
theorem q1800 : (Jvm.Cond.instanceMethod ({ cls := "CircuitDesk$Packet", name := "<init>", desc := "(III)V" } : Jvm.MethodName)) ∈ lw_all := lw_g (lw_at lw_m8 13 rfl) rfl
theorem q1801 : (Jvm.Cond.code ({ cls := "CircuitDesk$Packet", name := "<init>", desc := "(III)V" } : Jvm.MethodName) prog_9_method_1_code (4 : Nat) (Option.none : Option Jvm.ClassFile.FieldType)) ∈ lw_all := lw_g (lw_at lw_m8 14 rfl) rfl
theorem q1802 : (Jvm.Cond.methodLink "CircuitDesk$Packet" (1 : Nat) ({ cls := "java/lang/Object", name := "<init>", desc := "()V" } : Jvm.MethodName)) ∈ lw_all := lw_g (lw_at lw_m8 15 rfl) rfl
theorem q1803 : (Jvm.Cond.fieldLink "CircuitDesk$Packet" (7 : Nat) "CircuitDesk$Packet" "circuit" "I") ∈ lw_all := lw_g (lw_at lw_m8 16 rfl) rfl
theorem q1804 : (Jvm.Cond.fieldLinkNest "CircuitDesk$Net" (236 : Nat) "CircuitDesk$Packet" "circuit" "I" "CircuitDesk") ∈ lw_tbl := lw_at lw_m8 17 rfl
theorem q1805 : (Jvm.Cond.fieldLinkNest "CircuitDesk" (355 : Nat) "CircuitDesk$Packet" "circuit" "I" "CircuitDesk") ∈ lw_tbl := lw_at lw_m8 18 rfl
theorem q1806 : (Jvm.Cond.fieldLink "CircuitDesk$Packet" (13 : Nat) "CircuitDesk$Packet" "number" "I") ∈ lw_all := lw_g (lw_at lw_m8 19 rfl) rfl
theorem q1807 : (Jvm.Cond.fieldLinkNest "CircuitDesk$Net" (250 : Nat) "CircuitDesk$Packet" "number" "I" "CircuitDesk") ∈ lw_tbl := lw_at lw_m8 20 rfl
theorem q1808 : (Jvm.Cond.fieldLinkNest "CircuitDesk" (357 : Nat) "CircuitDesk$Packet" "number" "I" "CircuitDesk") ∈ lw_tbl := lw_at lw_m8 21 rfl
theorem q1809 : (Jvm.Cond.fieldLink "CircuitDesk$Packet" (16 : Nat) "CircuitDesk$Packet" "begun" "I") ∈ lw_all := lw_g (lw_at lw_m8 22 rfl) rfl
theorem q1810 : (Jvm.Cond.fieldLinkNest "CircuitDesk$Net" (247 : Nat) "CircuitDesk$Packet" "begun" "I" "CircuitDesk") ∈ lw_tbl := lw_at lw_m8 23 rfl
theorem q1811 : (Jvm.Cond.fieldLink "CircuitDesk$Packet" (22 : Nat) "CircuitDesk$Packet" "link" "I") ∈ lw_all := lw_g (lw_at lw_m8 24 rfl) rfl
theorem q1812 : (Jvm.Cond.fieldLinkNest "CircuitDesk$Net" (222 : Nat) "CircuitDesk$Packet" "link" "I" "CircuitDesk") ∈ lw_tbl := lw_at lw_m8 25 rfl
theorem q1813 : (Jvm.Cond.fieldLinkNest "CircuitDesk" (360 : Nat) "CircuitDesk$Packet" "link" "I" "CircuitDesk") ∈ lw_tbl := lw_at lw_m8 26 rfl
theorem q1814 : (Jvm.Cond.fieldLink "CircuitDesk$Packet" (25 : Nat) "CircuitDesk$Packet" "to" "I") ∈ lw_all := lw_g (lw_at lw_m8 27 rfl) rfl
theorem q1815 : (Jvm.Cond.fieldLinkNest "CircuitDesk$Net" (225 : Nat) "CircuitDesk$Packet" "to" "I" "CircuitDesk") ∈ lw_tbl := lw_at lw_m8 28 rfl
theorem q1816 : (Jvm.Cond.fieldLinkNest "CircuitDesk" (363 : Nat) "CircuitDesk$Packet" "to" "I" "CircuitDesk") ∈ lw_tbl := lw_at lw_m8 29 rfl
theorem q1817 : (Jvm.Cond.fieldLink "CircuitDesk$Packet" (28 : Nat) "CircuitDesk$Packet" "space" "I") ∈ lw_all := lw_g (lw_at lw_m8 30 rfl) rfl
theorem q1818 : (Jvm.Cond.fieldLinkNest "CircuitDesk$Net" (228 : Nat) "CircuitDesk$Packet" "space" "I" "CircuitDesk") ∈ lw_tbl := lw_at lw_m8 31 rfl
theorem q1819 : (Jvm.Cond.fieldLinkNest "CircuitDesk" (366 : Nat) "CircuitDesk$Packet" "space" "I" "CircuitDesk") ∈ lw_tbl := lw_at lw_m8 32 rfl
theorem q1820 : (Jvm.Cond.fieldLink "CircuitDesk$Packet" (31 : Nat) "CircuitDesk$Packet" "label" "I") ∈ lw_all := lw_g (lw_at lw_m8 33 rfl) rfl
theorem q1821 : (Jvm.Cond.fieldLinkNest "CircuitDesk$Net" (231 : Nat) "CircuitDesk$Packet" "label" "I" "CircuitDesk") ∈ lw_tbl := lw_at lw_m8 34 rfl
theorem q1822 : (Jvm.Cond.fieldLinkNest "CircuitDesk" (367 : Nat) "CircuitDesk$Packet" "label" "I" "CircuitDesk") ∈ lw_tbl := lw_at lw_m8 35 rfl
theorem q1823 : (Jvm.Cond.fieldLink "CircuitDesk$Packet" (34 : Nat) "CircuitDesk$Packet" "left" "I") ∈ lw_all := lw_g (lw_at lw_m8 36 rfl) rfl
theorem q1824 : (Jvm.Cond.fieldLinkNest "CircuitDesk$Net" (233 : Nat) "CircuitDesk$Packet" "left" "I" "CircuitDesk") ∈ lw_tbl := lw_at lw_m8 37 rfl
theorem q1825 : (Jvm.Cond.fieldLinkNest "CircuitDesk" (370 : Nat) "CircuitDesk$Packet" "left" "I" "CircuitDesk") ∈ lw_tbl := lw_at lw_m8 38 rfl
theorem q1826 : (Jvm.Cond.lays "CircuitDesk$Packet" "CircuitDesk$Packet" "circuit" "I") ∈ lw_all := lw_g (lw_at lw_m8 39 rfl) rfl
theorem q1827 : (Jvm.Cond.soleField "CircuitDesk$Packet" "circuit") ∈ lw_all := lw_g (lw_at lw_m8 40 rfl) rfl
theorem q1828 : (Jvm.Cond.laysFinal "CircuitDesk$Packet" "CircuitDesk$Packet" "number" "I") ∈ lw_all := lw_g (lw_at lw_m8 41 rfl) rfl
theorem q1829 : (Jvm.Cond.soleField "CircuitDesk$Packet" "number") ∈ lw_all := lw_g (lw_at lw_m8 42 rfl) rfl
theorem q1830 : (Jvm.Cond.laysFinal "CircuitDesk$Packet" "CircuitDesk$Packet" "begun" "I") ∈ lw_all := lw_g (lw_at lw_m8 43 rfl) rfl
theorem q1831 : (Jvm.Cond.soleField "CircuitDesk$Packet" "begun") ∈ lw_all := lw_g (lw_at lw_m8 44 rfl) rfl
theorem q1832 : (Jvm.Cond.lays "CircuitDesk$Packet" "CircuitDesk$Packet" "link" "I") ∈ lw_all := lw_g (lw_at lw_m8 45 rfl) rfl
theorem q1833 : (Jvm.Cond.soleField "CircuitDesk$Packet" "link") ∈ lw_all := lw_g (lw_at lw_m8 46 rfl) rfl
theorem q1834 : (Jvm.Cond.lays "CircuitDesk$Packet" "CircuitDesk$Packet" "to" "I") ∈ lw_all := lw_g (lw_at lw_m8 47 rfl) rfl
theorem q1835 : (Jvm.Cond.soleField "CircuitDesk$Packet" "to") ∈ lw_all := lw_g (lw_at lw_m8 48 rfl) rfl
theorem q1836 : (Jvm.Cond.lays "CircuitDesk$Packet" "CircuitDesk$Packet" "space" "I") ∈ lw_all := lw_g (lw_at lw_m8 49 rfl) rfl
theorem q1837 : (Jvm.Cond.soleField "CircuitDesk$Packet" "space") ∈ lw_all := lw_g (lw_at lw_m8 50 rfl) rfl
theorem q1838 : (Jvm.Cond.lays "CircuitDesk$Packet" "CircuitDesk$Packet" "label" "I") ∈ lw_all := lw_g (lw_at lw_m8 51 rfl) rfl
theorem q1839 : (Jvm.Cond.soleField "CircuitDesk$Packet" "label") ∈ lw_all := lw_g (lw_at lw_m8 52 rfl) rfl
theorem q1840 : (Jvm.Cond.lays "CircuitDesk$Packet" "CircuitDesk$Packet" "left" "I") ∈ lw_all := lw_g (lw_at lw_m8 53 rfl) rfl
theorem q1841 : (Jvm.Cond.soleField "CircuitDesk$Packet" "left") ∈ lw_all := lw_g (lw_at lw_m8 54 rfl) rfl
theorem q1842 : (Jvm.Cond.superclass "CircuitDesk$Packet" "java/lang/Object") ∈ lw_all := lw_g (lw_at lw_m8 55 rfl) rfl
theorem q1843 : (Jvm.Cond.methodLink "CircuitDesk$Net" (296 : Nat) ({ cls := "CircuitDesk$Circuit", name := "active", desc := "()LCircuitDesk$Way;" } : Jvm.MethodName)) ∈ lw_all := lw_g (lw_at lw_m8 56 rfl) rfl
theorem q1844 : (Jvm.Cond.methodLink "CircuitDeskLaw" (201 : Nat) ({ cls := "CircuitDeskLaw", name := "circuit", desc := "(LCircuitDesk;II[J)I" } : Jvm.MethodName)) ∈ lw_all := lw_g (lw_at lw_m8 57 rfl) rfl
theorem q1845 : (Jvm.Cond.static ({ cls := "CircuitDeskLaw", name := "circuit", desc := "(LCircuitDesk;II[J)I" } : Jvm.MethodName)) ∈ lw_all := lw_g (lw_at lw_m8 58 rfl) rfl
theorem q1846 : (Jvm.Cond.codeWith ({ cls := "CircuitDeskLaw", name := "circuit", desc := "(LCircuitDesk;II[J)I" } : Jvm.MethodName) method_23_code (5 : Nat) (Option.some Jvm.ClassFile.FieldType.int) [((0 : Nat), (10 : Nat), (13 : Nat), (27 : Nat)), ((0 : Nat), (10 : Nat), (17 : Nat), (18 : Nat))]) ∈ lw_all := lw_g (lw_at lw_m8 59 rfl) rfl
theorem q1847 : (Jvm.Cond.methodLink "CircuitDeskLaw" (80 : Nat) ({ cls := "CircuitDesk", name := "circuit", desc := "(II)I" } : Jvm.MethodName)) ∈ lw_all := lw_g (lw_at lw_m8 60 rfl) rfl
theorem q1848 : (Jvm.Cond.instanceMethod ({ cls := "CircuitDesk", name := "circuit", desc := "(II)I" } : Jvm.MethodName)) ∈ lw_all := lw_g (lw_at lw_m8 61 rfl) rfl
theorem q1849 : (Jvm.Cond.selects "CircuitDesk" ({ cls := "CircuitDesk", name := "circuit", desc := "(II)I" } : Jvm.MethodName) ({ cls := "CircuitDesk", name := "circuit", desc := "(II)I" } : Jvm.MethodName)) ∈ lw_all := lw_g (lw_at lw_m8 62 rfl) rfl
theorem q1850 : (Jvm.Cond.code ({ cls := "CircuitDesk", name := "circuit", desc := "(II)I" } : Jvm.MethodName) prog_1_method_37_code (4 : Nat) (Option.some Jvm.ClassFile.FieldType.int)) ∈ lw_all := lw_g (lw_at lw_m8 63 rfl) rfl
theorem q1851 : (Jvm.Cond.constantLong "CircuitDesk" (307 : Nat) (14 : Int64)) ∈ lw_all := lw_g (lw_at lw_m8 64 rfl) rfl
theorem q1852 : (Jvm.Cond.methodLink "CircuitDesk" (319 : Nat) ({ cls := "CircuitDesk$Net", name := "delayOf", desc := "(LCircuitDesk$Way;)I" } : Jvm.MethodName)) ∈ lw_all := lw_g (lw_at lw_m8 65 rfl) rfl
theorem q1853 : (Jvm.Cond.methodLink "CircuitDesk" (333 : Nat) ({ cls := "CircuitDesk$Net", name := "packetsOf", desc := "(I)I" } : Jvm.MethodName)) ∈ lw_all := lw_g (lw_at lw_m8 66 rfl) rfl
theorem q1854 : (Jvm.Cond.methodLink "CircuitDeskLaw" (204 : Nat) ({ cls := "CircuitDeskLaw", name := "way", desc := "(LCircuitDesk;IZII[J)I" } : Jvm.MethodName)) ∈ lw_all := lw_g (lw_at lw_m8 67 rfl) rfl
theorem q1855 : (Jvm.Cond.static ({ cls := "CircuitDeskLaw", name := "way", desc := "(LCircuitDesk;IZII[J)I" } : Jvm.MethodName)) ∈ lw_all := lw_g (lw_at lw_m8 68 rfl) rfl
theorem q1856 : (Jvm.Cond.codeWith ({ cls := "CircuitDeskLaw", name := "way", desc := "(LCircuitDesk;IZII[J)I" } : Jvm.MethodName) method_24_code (7 : Nat) (Option.some Jvm.ClassFile.FieldType.int) [((0 : Nat), (14 : Nat), (17 : Nat), (27 : Nat)), ((0 : Nat), (14 : Nat), (21 : Nat), (18 : Nat))]) ∈ lw_all := lw_g (lw_at lw_m8 69 rfl) rfl
theorem q1857 : (Jvm.Cond.methodLink "CircuitDeskLaw" (83 : Nat) ({ cls := "CircuitDesk", name := "way", desc := "(IZII)I" } : Jvm.MethodName)) ∈ lw_all := lw_g (lw_at lw_m8 70 rfl) rfl
theorem q1858 : (Jvm.Cond.instanceMethod ({ cls := "CircuitDesk", name := "way", desc := "(IZII)I" } : Jvm.MethodName)) ∈ lw_all := lw_g (lw_at lw_m8 71 rfl) rfl
theorem q1859 : (Jvm.Cond.selects "CircuitDesk" ({ cls := "CircuitDesk", name := "way", desc := "(IZII)I" } : Jvm.MethodName) ({ cls := "CircuitDesk", name := "way", desc := "(IZII)I" } : Jvm.MethodName)) ∈ lw_all := lw_g (lw_at lw_m8 72 rfl) rfl
theorem q1860 : (Jvm.Cond.code ({ cls := "CircuitDesk", name := "way", desc := "(IZII)I" } : Jvm.MethodName) prog_1_method_38_code (7 : Nat) (Option.some Jvm.ClassFile.FieldType.int)) ∈ lw_all := lw_g (lw_at lw_m8 73 rfl) rfl
theorem q1861 : (Jvm.Cond.constantLong "CircuitDesk" (341 : Nat) (2 : Int64)) ∈ lw_all := lw_g (lw_at lw_m8 74 rfl) rfl
theorem q1862 : (Jvm.Cond.methodLink "CircuitDesk" (343 : Nat) ({ cls := "CircuitDesk$Circuit", name := "of", desc := "(Z)LCircuitDesk$Way;" } : Jvm.MethodName)) ∈ lw_all := lw_g (lw_at lw_m8 75 rfl) rfl
theorem q1863 : (Jvm.Cond.methodLink "CircuitDeskLaw" (208 : Nat) ({ cls := "CircuitDeskLaw", name := "packet", desc := "(LCircuitDesk;II[J)I" } : Jvm.MethodName)) ∈ lw_all := lw_g (lw_at lw_m8 76 rfl) rfl
theorem q1864 : (Jvm.Cond.static ({ cls := "CircuitDeskLaw", name := "packet", desc := "(LCircuitDesk;II[J)I" } : Jvm.MethodName)) ∈ lw_all := lw_g (lw_at lw_m8 77 rfl) rfl
theorem q1865 : (Jvm.Cond.codeWith ({ cls := "CircuitDeskLaw", name := "packet", desc := "(LCircuitDesk;II[J)I" } : Jvm.MethodName) method_25_code (5 : Nat) (Option.some Jvm.ClassFile.FieldType.int) [((0 : Nat), (10 : Nat), (13 : Nat), (27 : Nat)), ((0 : Nat), (10 : Nat), (17 : Nat), (18 : Nat))]) ∈ lw_all := lw_g (lw_at lw_m8 78 rfl) rfl
theorem q1866 : (Jvm.Cond.methodLink "CircuitDeskLaw" (87 : Nat) ({ cls := "CircuitDesk", name := "packet", desc := "(II)I" } : Jvm.MethodName)) ∈ lw_all := lw_g (lw_at lw_m8 79 rfl) rfl
theorem q1867 : (Jvm.Cond.instanceMethod ({ cls := "CircuitDesk", name := "packet", desc := "(II)I" } : Jvm.MethodName)) ∈ lw_all := lw_g (lw_at lw_m8 80 rfl) rfl
theorem q1868 : (Jvm.Cond.selects "CircuitDesk" ({ cls := "CircuitDesk", name := "packet", desc := "(II)I" } : Jvm.MethodName) ({ cls := "CircuitDesk", name := "packet", desc := "(II)I" } : Jvm.MethodName)) ∈ lw_all := lw_g (lw_at lw_m8 81 rfl) rfl
theorem q1869 : (Jvm.Cond.code ({ cls := "CircuitDesk", name := "packet", desc := "(II)I" } : Jvm.MethodName) prog_1_method_39_code (4 : Nat) (Option.some Jvm.ClassFile.FieldType.int)) ∈ lw_all := lw_g (lw_at lw_m8 82 rfl) rfl
theorem q1870 : (Jvm.Cond.classLink "CircuitDesk" (353 : Nat) "CircuitDesk$Packet") ∈ lw_all := lw_g (lw_at lw_m8 83 rfl) rfl
theorem q1871 : (Jvm.Cond.methodLink "CircuitDeskLaw" (211 : Nat) ({ cls := "CircuitDeskLaw", name := "meanDelay", desc := "(LCircuitDesk;I[D)I" } : Jvm.MethodName)) ∈ lw_all := lw_g (lw_at lw_m8 84 rfl) rfl
theorem q1872 : (Jvm.Cond.static ({ cls := "CircuitDeskLaw", name := "meanDelay", desc := "(LCircuitDesk;I[D)I" } : Jvm.MethodName)) ∈ lw_all := lw_g (lw_at lw_m8 85 rfl) rfl
theorem q1873 : (Jvm.Cond.codeWith ({ cls := "CircuitDeskLaw", name := "meanDelay", desc := "(LCircuitDesk;I[D)I" } : Jvm.MethodName) method_26_code (4 : Nat) (Option.some Jvm.ClassFile.FieldType.int) [((0 : Nat), (8 : Nat), (11 : Nat), (27 : Nat))]) ∈ lw_all := lw_g (lw_at lw_m8 86 rfl) rfl
theorem q1874 : (Jvm.Cond.methodLink "CircuitDeskLaw" (90 : Nat) ({ cls := "CircuitDesk", name := "meanDelay", desc := "(I)D" } : Jvm.MethodName)) ∈ lw_all := lw_g (lw_at lw_m8 87 rfl) rfl
theorem q1875 : (Jvm.Cond.instanceMethod ({ cls := "CircuitDesk", name := "meanDelay", desc := "(I)D" } : Jvm.MethodName)) ∈ lw_all := lw_g (lw_at lw_m8 88 rfl) rfl
theorem q1876 : (Jvm.Cond.selects "CircuitDesk" ({ cls := "CircuitDesk", name := "meanDelay", desc := "(I)D" } : Jvm.MethodName) ({ cls := "CircuitDesk", name := "meanDelay", desc := "(I)D" } : Jvm.MethodName)) ∈ lw_all := lw_g (lw_at lw_m8 89 rfl) rfl
theorem q1877 : (Jvm.Cond.code ({ cls := "CircuitDesk", name := "meanDelay", desc := "(I)D" } : Jvm.MethodName) prog_1_method_40_code (3 : Nat) (Option.some Jvm.ClassFile.FieldType.double)) ∈ lw_all := lw_g (lw_at lw_m8 90 rfl) rfl
theorem q1878 : (Jvm.Cond.constantDouble "CircuitDesk" (371 : Nat) (13830554455654793216 : UInt64)) ∈ lw_all := lw_g (lw_at lw_m8 91 rfl) rfl
theorem q1879 : (Jvm.Cond.methodLink "CircuitDeskLaw" (220 : Nat) ({ cls := "CircuitDeskLaw", name := "canMove", desc := "(LCircuitDesk;II[J)I" } : Jvm.MethodName)) ∈ lw_all := lw_g (lw_at lw_m8 92 rfl) rfl
theorem q1880 : (Jvm.Cond.static ({ cls := "CircuitDeskLaw", name := "canMove", desc := "(LCircuitDesk;II[J)I" } : Jvm.MethodName)) ∈ lw_all := lw_g (lw_at lw_m8 93 rfl) rfl
theorem q1881 : (Jvm.Cond.codeWith ({ cls := "CircuitDeskLaw", name := "canMove", desc := "(LCircuitDesk;II[J)I" } : Jvm.MethodName) method_27_code (5 : Nat) (Option.some Jvm.ClassFile.FieldType.int) [((0 : Nat), (10 : Nat), (13 : Nat), (27 : Nat))]) ∈ lw_all := lw_g (lw_at lw_m8 94 rfl) rfl
theorem q1882 : (Jvm.Cond.methodLink "CircuitDeskLaw" (94 : Nat) ({ cls := "CircuitDesk", name := "canMove", desc := "(II)I" } : Jvm.MethodName)) ∈ lw_all := lw_g (lw_at lw_m8 95 rfl) rfl
theorem q1883 : (Jvm.Cond.instanceMethod ({ cls := "CircuitDesk", name := "canMove", desc := "(II)I" } : Jvm.MethodName)) ∈ lw_all := lw_g (lw_at lw_m8 96 rfl) rfl
theorem q1884 : (Jvm.Cond.selects "CircuitDesk" ({ cls := "CircuitDesk", name := "canMove", desc := "(II)I" } : Jvm.MethodName) ({ cls := "CircuitDesk", name := "canMove", desc := "(II)I" } : Jvm.MethodName)) ∈ lw_all := lw_g (lw_at lw_m8 97 rfl) rfl
theorem q1885 : (Jvm.Cond.code ({ cls := "CircuitDesk", name := "canMove", desc := "(II)I" } : Jvm.MethodName) prog_1_method_42_code (3 : Nat) (Option.some Jvm.ClassFile.FieldType.int)) ∈ lw_all := lw_g (lw_at lw_m8 98 rfl) rfl
theorem q1886 : (Jvm.Cond.methodLink "CircuitDesk" (376 : Nat) ({ cls := "CircuitDesk$Net", name := "copy", desc := "()LCircuitDesk$Net;" } : Jvm.MethodName)) ∈ lw_all := lw_g (lw_at lw_m8 99 rfl) rfl
theorem q1887 : (Jvm.Cond.instanceMethod ({ cls := "CircuitDesk$Net", name := "copy", desc := "()LCircuitDesk$Net;" } : Jvm.MethodName)) ∈ lw_all := lw_g (lw_at lw_m8 100 rfl) rfl
theorem q1888 : (Jvm.Cond.selects "CircuitDesk$Net" ({ cls := "CircuitDesk$Net", name := "copy", desc := "()LCircuitDesk$Net;" } : Jvm.MethodName) ({ cls := "CircuitDesk$Net", name := "copy", desc := "()LCircuitDesk$Net;" } : Jvm.MethodName)) ∈ lw_all := lw_g (lw_at lw_m8 101 rfl) rfl
theorem q1889 : (Jvm.Cond.code ({ cls := "CircuitDesk$Net", name := "copy", desc := "()LCircuitDesk$Net;" } : Jvm.MethodName) prog_7_method_2_code (4 : Nat) (Option.some (Jvm.ClassFile.FieldType.object "CircuitDesk$Net"))) ∈ lw_all := lw_g (lw_at lw_m8 102 rfl) rfl
theorem q1890 : (Jvm.Cond.classLink "CircuitDesk$Net" (10 : Nat) "CircuitDesk$Net") ∈ lw_all := lw_g (lw_at lw_m8 103 rfl) rfl
theorem q1891 : (Jvm.Cond.methodLink "CircuitDesk$Net" (43 : Nat) ({ cls := "CircuitDesk$Net", name := "<init>", desc := "()V" } : Jvm.MethodName)) ∈ lw_all := lw_g (lw_at lw_m8 104 rfl) rfl
theorem q1892 : (Jvm.Cond.methodLink "CircuitDesk$Net" (44 : Nat) ({ cls := "[I", name := "clone", desc := "()Ljava/lang/Object;" } : Jvm.MethodName)) ∈ lw_all := lw_g (lw_at lw_m8 105 rfl) rfl
theorem q1893 : (Jvm.Cond.classLink "CircuitDesk$Net" (45 : Nat) "[I") ∈ lw_all := lw_g (lw_at lw_m8 106 rfl) rfl
theorem q1894 : (Jvm.Cond.methodLink "CircuitDesk$Net" (64 : Nat) ({ cls := "CircuitDesk$Node", name := "copy", desc := "()LCircuitDesk$Node;" } : Jvm.MethodName)) ∈ lw_all := lw_g (lw_at lw_m8 107 rfl) rfl
theorem q1895 : (Jvm.Cond.instanceMethod ({ cls := "CircuitDesk$Node", name := "copy", desc := "()LCircuitDesk$Node;" } : Jvm.MethodName)) ∈ lw_all := lw_g (lw_at lw_m8 108 rfl) rfl
theorem q1896 : (Jvm.Cond.selects "CircuitDesk$Node" ({ cls := "CircuitDesk$Node", name := "copy", desc := "()LCircuitDesk$Node;" } : Jvm.MethodName) ({ cls := "CircuitDesk$Node", name := "copy", desc := "()LCircuitDesk$Node;" } : Jvm.MethodName)) ∈ lw_all := lw_g (lw_at lw_m8 109 rfl) rfl
theorem q1897 : (Jvm.Cond.code ({ cls := "CircuitDesk$Node", name := "copy", desc := "()LCircuitDesk$Node;" } : Jvm.MethodName) prog_8_method_2_code (2 : Nat) (Option.some (Jvm.ClassFile.FieldType.object "CircuitDesk$Node"))) ∈ lw_all := lw_g (lw_at lw_m8 110 rfl) rfl
theorem q1898 : (Jvm.Cond.classLink "CircuitDesk$Node" (10 : Nat) "CircuitDesk$Node") ∈ lw_all := lw_g (lw_at lw_m8 111 rfl) rfl
theorem q1899 : (Jvm.Cond.methodLink "CircuitDesk$Node" (29 : Nat) ({ cls := "CircuitDesk$Node", name := "<init>", desc := "(I)V" } : Jvm.MethodName)) ∈ lw_all := lw_g (lw_at lw_m8 112 rfl) rfl
theorem q1900 : (Jvm.Cond.methodLink "CircuitDesk$Node" (32 : Nat) ({ cls := "[I", name := "clone", desc := "()Ljava/lang/Object;" } : Jvm.MethodName)) ∈ lw_all := lw_g (lw_at lw_m8 113 rfl) rfl
theorem q1901 : (Jvm.Cond.classLink "CircuitDesk$Node" (33 : Nat) "[I") ∈ lw_all := lw_g (lw_at lw_m8 114 rfl) rfl
theorem q1902 : (Jvm.Cond.methodLink "CircuitDesk$Node" (37 : Nat) ({ cls := "[Z", name := "clone", desc := "()Ljava/lang/Object;" } : Jvm.MethodName)) ∈ lw_all := lw_g (lw_at lw_m8 115 rfl) rfl
theorem q1903 : (Jvm.Cond.sameMethod "[Z" "java/lang/Object" "clone" "()Ljava/lang/Object;") ∈ lw_all := lw_g (lw_at lw_m8 116 rfl) rfl
theorem q1904 : (Jvm.Cond.selects "[Z" ({ cls := "[Z", name := "clone", desc := "()Ljava/lang/Object;" } : Jvm.MethodName) ({ cls := "java/lang/Object", name := "clone", desc := "()Ljava/lang/Object;" } : Jvm.MethodName)) ∈ lw_all := lw_g (lw_at lw_m8 117 rfl) rfl
theorem q1905 : (Jvm.Cond.castable "[Z" "java/lang/Cloneable") ∈ lw_tbl := lw_at lw_m8 118 rfl
theorem q1906 : (Jvm.Cond.classLink "CircuitDesk$Node" (38 : Nat) "[Z") ∈ lw_all := lw_g (lw_at lw_m8 119 rfl) rfl
theorem q1907 : (Jvm.Cond.methodLink "CircuitDesk$Net" (74 : Nat) ({ cls := "CircuitDesk$Link", name := "copy", desc := "()LCircuitDesk$Link;" } : Jvm.MethodName)) ∈ lw_all := lw_g (lw_at lw_m8 120 rfl) rfl
theorem q1908 : (Jvm.Cond.instanceMethod ({ cls := "CircuitDesk$Link", name := "copy", desc := "()LCircuitDesk$Link;" } : Jvm.MethodName)) ∈ lw_all := lw_g (lw_at lw_m8 121 rfl) rfl
theorem q1909 : (Jvm.Cond.selects "CircuitDesk$Link" ({ cls := "CircuitDesk$Link", name := "copy", desc := "()LCircuitDesk$Link;" } : Jvm.MethodName) ({ cls := "CircuitDesk$Link", name := "copy", desc := "()LCircuitDesk$Link;" } : Jvm.MethodName)) ∈ lw_all := lw_g (lw_at lw_m8 122 rfl) rfl
theorem q1910 : (Jvm.Cond.code ({ cls := "CircuitDesk$Link", name := "copy", desc := "()LCircuitDesk$Link;" } : Jvm.MethodName) prog_6_method_2_code (2 : Nat) (Option.some (Jvm.ClassFile.FieldType.object "CircuitDesk$Link"))) ∈ lw_all := lw_g (lw_at lw_m8 123 rfl) rfl
theorem q1911 : (Jvm.Cond.classLink "CircuitDesk$Link" (8 : Nat) "CircuitDesk$Link") ∈ lw_all := lw_g (lw_at lw_m8 124 rfl) rfl
theorem q1912 : (Jvm.Cond.methodLink "CircuitDesk$Link" (26 : Nat) ({ cls := "CircuitDesk$Link", name := "<init>", desc := "(IIII)V" } : Jvm.MethodName)) ∈ lw_all := lw_g (lw_at lw_m8 125 rfl) rfl
theorem q1913 : (Jvm.Cond.methodLink "CircuitDesk$Net" (79 : Nat) ({ cls := "CircuitDesk$Circuit", name := "copy", desc := "()LCircuitDesk$Circuit;" } : Jvm.MethodName)) ∈ lw_all := lw_g (lw_at lw_m8 126 rfl) rfl
theorem q1914 : (Jvm.Cond.instanceMethod ({ cls := "CircuitDesk$Circuit", name := "copy", desc := "()LCircuitDesk$Circuit;" } : Jvm.MethodName)) ∈ lw_all := lw_g (lw_at lw_m8 127 rfl) rfl
theorem q1915 : (Jvm.Cond.selects "CircuitDesk$Circuit" ({ cls := "CircuitDesk$Circuit", name := "copy", desc := "()LCircuitDesk$Circuit;" } : Jvm.MethodName) ({ cls := "CircuitDesk$Circuit", name := "copy", desc := "()LCircuitDesk$Circuit;" } : Jvm.MethodName)) ∈ lw_all := lw_g (lw_at lw_m8 128 rfl) rfl
theorem q1916 : (Jvm.Cond.code ({ cls := "CircuitDesk$Circuit", name := "copy", desc := "()LCircuitDesk$Circuit;" } : Jvm.MethodName) prog_3_method_2_code (2 : Nat) (Option.some (Jvm.ClassFile.FieldType.object "CircuitDesk$Circuit"))) ∈ lw_all := lw_g (lw_at lw_m8 129 rfl) rfl
theorem q1917 : (Jvm.Cond.classLink "CircuitDesk$Circuit" (13 : Nat) "CircuitDesk$Circuit") ∈ lw_all := lw_g (lw_at lw_m8 130 rfl) rfl
theorem q1918 : (Jvm.Cond.methodLink "CircuitDesk$Circuit" (28 : Nat) ({ cls := "CircuitDesk$Circuit", name := "<init>", desc := "(II)V" } : Jvm.MethodName)) ∈ lw_all := lw_g (lw_at lw_m8 131 rfl) rfl
theorem q1919 : (Jvm.Cond.methodLink "CircuitDesk$Circuit" (31 : Nat) ({ cls := "CircuitDesk$Way", name := "copy", desc := "()LCircuitDesk$Way;" } : Jvm.MethodName)) ∈ lw_all := lw_g (lw_at lw_m8 132 rfl) rfl
theorem q1920 : (Jvm.Cond.methodLink "CircuitDesk$Net" (84 : Nat) ({ cls := "CircuitDesk$Packet", name := "copy", desc := "()LCircuitDesk$Packet;" } : Jvm.MethodName)) ∈ lw_all := lw_g (lw_at lw_m8 133 rfl) rfl
theorem q1921 : (Jvm.Cond.instanceMethod ({ cls := "CircuitDesk$Packet", name := "copy", desc := "()LCircuitDesk$Packet;" } : Jvm.MethodName)) ∈ lw_all := lw_g (lw_at lw_m8 134 rfl) rfl
theorem q1922 : (Jvm.Cond.selects "CircuitDesk$Packet" ({ cls := "CircuitDesk$Packet", name := "copy", desc := "()LCircuitDesk$Packet;" } : Jvm.MethodName) ({ cls := "CircuitDesk$Packet", name := "copy", desc := "()LCircuitDesk$Packet;" } : Jvm.MethodName)) ∈ lw_all := lw_g (lw_at lw_m8 135 rfl) rfl
theorem q1923 : (Jvm.Cond.code ({ cls := "CircuitDesk$Packet", name := "copy", desc := "()LCircuitDesk$Packet;" } : Jvm.MethodName) prog_9_method_2_code (2 : Nat) (Option.some (Jvm.ClassFile.FieldType.object "CircuitDesk$Packet"))) ∈ lw_all := lw_g (lw_at lw_m8 136 rfl) rfl
theorem q1924 : (Jvm.Cond.classLink "CircuitDesk$Packet" (8 : Nat) "CircuitDesk$Packet") ∈ lw_all := lw_g (lw_at lw_m8 137 rfl) rfl
theorem q1925 : (Jvm.Cond.methodLink "CircuitDesk$Packet" (19 : Nat) ({ cls := "CircuitDesk$Packet", name := "<init>", desc := "(III)V" } : Jvm.MethodName)) ∈ lw_all := lw_g (lw_at lw_m8 138 rfl) rfl
theorem q1926 : (Jvm.Cond.methodLink "CircuitDeskLaw" (223 : Nat) ({ cls := "CircuitDeskLaw", name := "movedIn", desc := "(LCircuitDesk;I[J)I" } : Jvm.MethodName)) ∈ lw_all := lw_g (lw_at lw_m8 139 rfl) rfl
theorem q1927 : (Jvm.Cond.static ({ cls := "CircuitDeskLaw", name := "movedIn", desc := "(LCircuitDesk;I[J)I" } : Jvm.MethodName)) ∈ lw_all := lw_g (lw_at lw_m8 140 rfl) rfl
theorem q1928 : (Jvm.Cond.codeWith ({ cls := "CircuitDeskLaw", name := "movedIn", desc := "(LCircuitDesk;I[J)I" } : Jvm.MethodName) method_28_code (4 : Nat) (Option.some Jvm.ClassFile.FieldType.int) [((0 : Nat), (9 : Nat), (12 : Nat), (27 : Nat))]) ∈ lw_all := lw_g (lw_at lw_m8 141 rfl) rfl
theorem q1929 : (Jvm.Cond.methodLink "CircuitDeskLaw" (97 : Nat) ({ cls := "CircuitDesk", name := "movedIn", desc := "(I)I" } : Jvm.MethodName)) ∈ lw_all := lw_g (lw_at lw_m8 142 rfl) rfl
theorem q1930 : (Jvm.Cond.instanceMethod ({ cls := "CircuitDesk", name := "movedIn", desc := "(I)I" } : Jvm.MethodName)) ∈ lw_all := lw_g (lw_at lw_m8 143 rfl) rfl
theorem q1931 : (Jvm.Cond.selects "CircuitDesk" ({ cls := "CircuitDesk", name := "movedIn", desc := "(I)I" } : Jvm.MethodName) ({ cls := "CircuitDesk", name := "movedIn", desc := "(I)I" } : Jvm.MethodName)) ∈ lw_all := lw_g (lw_at lw_m8 144 rfl) rfl
theorem q1932 : (Jvm.Cond.code ({ cls := "CircuitDesk", name := "movedIn", desc := "(I)I" } : Jvm.MethodName) prog_1_method_43_code (5 : Nat) (Option.some Jvm.ClassFile.FieldType.int)) ∈ lw_all := lw_g (lw_at lw_m8 145 rfl) rfl
theorem q1933 : (Jvm.Cond.methodLink "CircuitDesk" (380 : Nat) ({ cls := "CircuitDesk$Net", name := "tick", desc := "()V" } : Jvm.MethodName)) ∈ lw_all := lw_g (lw_at lw_m8 146 rfl) rfl
theorem q1934 : (Jvm.Cond.methodLink "CircuitDeskLaw" (226 : Nat) ({ cls := "CircuitDeskLaw", name := "ahead", desc := "(LCircuitDesk;II[J)I" } : Jvm.MethodName)) ∈ lw_all := lw_g (lw_at lw_m8 147 rfl) rfl
theorem q1935 : (Jvm.Cond.static ({ cls := "CircuitDeskLaw", name := "ahead", desc := "(LCircuitDesk;II[J)I" } : Jvm.MethodName)) ∈ lw_all := lw_g (lw_at lw_m8 148 rfl) rfl
theorem q1936 : (Jvm.Cond.codeWith ({ cls := "CircuitDeskLaw", name := "ahead", desc := "(LCircuitDesk;II[J)I" } : Jvm.MethodName) method_29_code (5 : Nat) (Option.some Jvm.ClassFile.FieldType.int) [((0 : Nat), (10 : Nat), (13 : Nat), (18 : Nat))]) ∈ lw_all := lw_g (lw_at lw_m8 149 rfl) rfl
theorem q1937 : (Jvm.Cond.methodLink "CircuitDeskLaw" (100 : Nat) ({ cls := "CircuitDesk", name := "ahead", desc := "(II)I" } : Jvm.MethodName)) ∈ lw_all := lw_g (lw_at lw_m8 150 rfl) rfl
theorem q1938 : (Jvm.Cond.instanceMethod ({ cls := "CircuitDesk", name := "ahead", desc := "(II)I" } : Jvm.MethodName)) ∈ lw_all := lw_g (lw_at lw_m8 151 rfl) rfl
theorem q1939 : (Jvm.Cond.selects "CircuitDesk" ({ cls := "CircuitDesk", name := "ahead", desc := "(II)I" } : Jvm.MethodName) ({ cls := "CircuitDesk", name := "ahead", desc := "(II)I" } : Jvm.MethodName)) ∈ lw_all := lw_g (lw_at lw_m8 152 rfl) rfl
theorem q1940 : (Jvm.Cond.code ({ cls := "CircuitDesk", name := "ahead", desc := "(II)I" } : Jvm.MethodName) prog_1_method_44_code (4 : Nat) (Option.some Jvm.ClassFile.FieldType.int)) ∈ lw_all := lw_g (lw_at lw_m8 153 rfl) rfl
theorem q1941 : (Jvm.Cond.methodLink "CircuitDeskLaw" (233 : Nat) ({ cls := "CircuitDeskLaw", name := "save", desc := "(LCircuitDesk;I)I" } : Jvm.MethodName)) ∈ lw_all := lw_g (lw_at lw_m8 154 rfl) rfl
theorem q1942 : (Jvm.Cond.static ({ cls := "CircuitDeskLaw", name := "save", desc := "(LCircuitDesk;I)I" } : Jvm.MethodName)) ∈ lw_all := lw_g (lw_at lw_m8 155 rfl) rfl
theorem q1943 : (Jvm.Cond.codeWith ({ cls := "CircuitDeskLaw", name := "save", desc := "(LCircuitDesk;I)I" } : Jvm.MethodName) method_30_code (3 : Nat) (Option.some Jvm.ClassFile.FieldType.int) [((0 : Nat), (5 : Nat), (8 : Nat), (18 : Nat))]) ∈ lw_all := lw_g (lw_at lw_m8 156 rfl) rfl
theorem q1944 : (Jvm.Cond.methodLink "CircuitDeskLaw" (103 : Nat) ({ cls := "CircuitDesk", name := "save", desc := "(I)V" } : Jvm.MethodName)) ∈ lw_all := lw_g (lw_at lw_m8 157 rfl) rfl
theorem q1945 : (Jvm.Cond.instanceMethod ({ cls := "CircuitDesk", name := "save", desc := "(I)V" } : Jvm.MethodName)) ∈ lw_all := lw_g (lw_at lw_m8 158 rfl) rfl
theorem q1946 : (Jvm.Cond.selects "CircuitDesk" ({ cls := "CircuitDesk", name := "save", desc := "(I)V" } : Jvm.MethodName) ({ cls := "CircuitDesk", name := "save", desc := "(I)V" } : Jvm.MethodName)) ∈ lw_all := lw_g (lw_at lw_m8 159 rfl) rfl
theorem q1947 : (Jvm.Cond.code ({ cls := "CircuitDesk", name := "save", desc := "(I)V" } : Jvm.MethodName) prog_1_method_52_code (2 : Nat) (Option.none : Option Jvm.ClassFile.FieldType)) ∈ lw_all := lw_g (lw_at lw_m8 160 rfl) rfl
theorem q1948 : (Jvm.Cond.methodLink "CircuitDeskLaw" (237 : Nat) ({ cls := "CircuitDeskLaw", name := "restore", desc := "(LCircuitDesk;I)I" } : Jvm.MethodName)) ∈ lw_all := lw_g (lw_at lw_m8 161 rfl) rfl
theorem q1949 : (Jvm.Cond.static ({ cls := "CircuitDeskLaw", name := "restore", desc := "(LCircuitDesk;I)I" } : Jvm.MethodName)) ∈ lw_all := lw_g (lw_at lw_m8 162 rfl) rfl
theorem q1950 : (Jvm.Cond.codeWith ({ cls := "CircuitDeskLaw", name := "restore", desc := "(LCircuitDesk;I)I" } : Jvm.MethodName) method_31_code (3 : Nat) (Option.some Jvm.ClassFile.FieldType.int) [((0 : Nat), (5 : Nat), (8 : Nat), (18 : Nat)), ((0 : Nat), (5 : Nat), (11 : Nat), (13 : Nat))]) ∈ lw_all := lw_g (lw_at lw_m8 163 rfl) rfl
theorem q1951 : (Jvm.Cond.methodLink "CircuitDeskLaw" (107 : Nat) ({ cls := "CircuitDesk", name := "restore", desc := "(I)V" } : Jvm.MethodName)) ∈ lw_all := lw_g (lw_at lw_m8 164 rfl) rfl
theorem q1952 : (Jvm.Cond.instanceMethod ({ cls := "CircuitDesk", name := "restore", desc := "(I)V" } : Jvm.MethodName)) ∈ lw_all := lw_g (lw_at lw_m8 165 rfl) rfl
theorem q1953 : (Jvm.Cond.selects "CircuitDesk" ({ cls := "CircuitDesk", name := "restore", desc := "(I)V" } : Jvm.MethodName) ({ cls := "CircuitDesk", name := "restore", desc := "(I)V" } : Jvm.MethodName)) ∈ lw_all := lw_g (lw_at lw_m8 166 rfl) rfl
theorem q1954 : (Jvm.Cond.code ({ cls := "CircuitDesk", name := "restore", desc := "(I)V" } : Jvm.MethodName) prog_1_method_53_code (2 : Nat) (Option.none : Option Jvm.ClassFile.FieldType)) ∈ lw_all := lw_g (lw_at lw_m8 167 rfl) rfl
theorem q1955 : (Jvm.Cond.classLink "CircuitDeskLaw" (111 : Nat) "CircuitDeskModel") ∈ lw_all := lw_g (lw_at lw_m8 168 rfl) rfl
theorem q1956 : (Jvm.Cond.instantiable "CircuitDeskModel" (29 : Nat)) ∈ lw_all := lw_g (lw_at lw_m8 169 rfl) rfl
theorem q1957 : (Jvm.Cond.methodLink "CircuitDeskLaw" (113 : Nat) ({ cls := "CircuitDeskModel", name := "<init>", desc := "()V" } : Jvm.MethodName)) ∈ lw_all := lw_g (lw_at lw_m8 170 rfl) rfl
theorem q1958 : (Jvm.Cond.instanceMethod ({ cls := "CircuitDeskModel", name := "<init>", desc := "()V" } : Jvm.MethodName)) ∈ lw_all := lw_g (lw_at lw_m8 171 rfl) rfl
theorem q1959 : (Jvm.Cond.code ({ cls := "CircuitDeskModel", name := "<init>", desc := "()V" } : Jvm.MethodName) prog_17_method_1_code (1 : Nat) (Option.none : Option Jvm.ClassFile.FieldType)) ∈ lw_all := lw_g (lw_at lw_m8 172 rfl) rfl
theorem q1960 : (Jvm.Cond.methodLink "CircuitDeskModel" (1 : Nat) ({ cls := "java/lang/Object", name := "<init>", desc := "()V" } : Jvm.MethodName)) ∈ lw_all := lw_g (lw_at lw_m8 173 rfl) rfl
theorem q1961 : (Jvm.Cond.methodLink "CircuitDeskModel" (48 : Nat) ({ cls := "CircuitDeskModel", name := "clear", desc := "()V" } : Jvm.MethodName)) ∈ lw_all := lw_g (lw_at lw_m8 174 rfl) rfl
theorem q1962 : (Jvm.Cond.privateMethod ({ cls := "CircuitDeskModel", name := "clear", desc := "()V" } : Jvm.MethodName)) ∈ lw_tbl := lw_at lw_m8 175 rfl
theorem q1963 : (Jvm.Cond.instanceMethod ({ cls := "CircuitDeskModel", name := "clear", desc := "()V" } : Jvm.MethodName)) ∈ lw_all := lw_g (lw_at lw_m8 176 rfl) rfl
theorem q1964 : (Jvm.Cond.code ({ cls := "CircuitDeskModel", name := "clear", desc := "()V" } : Jvm.MethodName) prog_17_method_5_code (2 : Nat) (Option.none : Option Jvm.ClassFile.FieldType)) ∈ lw_all := lw_g (lw_at lw_m8 177 rfl) rfl
theorem q1965 : (Jvm.Cond.fieldLink "CircuitDeskModel" (7 : Nat) "CircuitDeskModel" "state" "[I") ∈ lw_all := lw_g (lw_at lw_m8 178 rfl) rfl
theorem q1966 : (Jvm.Cond.fieldLink "CircuitDeskModel" (13 : Nat) "CircuitDeskModel" "backup" "[I") ∈ lw_all := lw_g (lw_at lw_m8 179 rfl) rfl
theorem q1967 : (Jvm.Cond.fieldLink "CircuitDeskModel" (16 : Nat) "CircuitDeskModel" "aside" "[I") ∈ lw_all := lw_g (lw_at lw_m8 180 rfl) rfl
theorem q1968 : (Jvm.Cond.fieldLink "CircuitDeskModel" (19 : Nat) "CircuitDeskModel" "saved" "[I") ∈ lw_all := lw_g (lw_at lw_m8 181 rfl) rfl
theorem q1969 : (Jvm.Cond.fieldLink "CircuitDeskModel" (22 : Nat) "CircuitDeskModel" "isSaved" "[Z") ∈ lw_all := lw_g (lw_at lw_m8 182 rfl) rfl
theorem q1970 : (Jvm.Cond.fieldLink "CircuitDeskModel" (26 : Nat) "CircuitDeskModel" "draftRow" "[I") ∈ lw_all := lw_g (lw_at lw_m8 183 rfl) rfl
theorem q1971 : (Jvm.Cond.fieldLink "CircuitDeskModel" (198 : Nat) "CircuitDeskModel" "draftLength" "I") ∈ lw_all := lw_g (lw_at lw_m8 184 rfl) rfl
theorem q1972 : (Jvm.Cond.fieldLink "CircuitDeskModel" (51 : Nat) "CircuitDeskModel" "thrown" "I") ∈ lw_all := lw_g (lw_at lw_m8 185 rfl) rfl
theorem q1973 : (Jvm.Cond.fieldLink "CircuitDeskModel" (29 : Nat) "CircuitDeskModel" "text" "[I") ∈ lw_all := lw_g (lw_at lw_m8 186 rfl) rfl
theorem q1974 : (Jvm.Cond.fieldLink "CircuitDeskModel" (58 : Nat) "CircuitDeskModel" "textLength" "I") ∈ lw_all := lw_g (lw_at lw_m8 187 rfl) rfl
theorem q1975 : (Jvm.Cond.fieldLink "CircuitDeskModel" (65 : Nat) "CircuitDeskModel" "position" "I") ∈ lw_all := lw_g (lw_at lw_m8 188 rfl) rfl
theorem q1976 : (Jvm.Cond.fieldLink "CircuitDeskModel" (71 : Nat) "CircuitDeskModel" "tokenStart" "I") ∈ lw_all := lw_g (lw_at lw_m8 189 rfl) rfl
theorem q1977 : (Jvm.Cond.fieldLink "CircuitDeskModel" (84 : Nat) "CircuitDeskModel" "token" "I") ∈ lw_all := lw_g (lw_at lw_m8 190 rfl) rfl
theorem q1978 : (Jvm.Cond.fieldLink "CircuitDeskModel" (74 : Nat) "CircuitDeskModel" "letters" "I") ∈ lw_all := lw_g (lw_at lw_m8 191 rfl) rfl
theorem q1979 : (Jvm.Cond.fieldLink "CircuitDeskModel" (81 : Nat) "CircuitDeskModel" "number" "I") ∈ lw_all := lw_g (lw_at lw_m8 192 rfl) rfl
theorem q1980 : (Jvm.Cond.fieldLink "CircuitDeskModel" (109 : Nat) "CircuitDeskModel" "errorCode" "I") ∈ lw_all := lw_g (lw_at lw_m8 193 rfl) rfl
theorem q1981 : (Jvm.Cond.fieldLink "CircuitDeskModel" (32 : Nat) "CircuitDeskModel" "errorPosition" "I") ∈ lw_all := lw_g (lw_at lw_m8 194 rfl) rfl
theorem q1982 : (Jvm.Cond.fieldLink "CircuitDeskModel" (77 : Nat) "CircuitDeskModel" "word" "J") ∈ lw_all := lw_g (lw_at lw_m8 195 rfl) rfl
theorem q1983 : (Jvm.Cond.fieldLink "CircuitDeskModel" (223 : Nat) "CircuitDeskModel" "holder" "I") ∈ lw_all := lw_g (lw_at lw_m8 196 rfl) rfl
theorem q1984 : (Jvm.Cond.fieldLink "CircuitDeskModel" (226 : Nat) "CircuitDeskModel" "holderWay" "I") ∈ lw_all := lw_g (lw_at lw_m8 197 rfl) rfl
theorem q1985 : (Jvm.Cond.fieldLink "CircuitDeskModel" (229 : Nat) "CircuitDeskModel" "holderIndex" "I") ∈ lw_all := lw_g (lw_at lw_m8 198 rfl) rfl
theorem q1986 : (Jvm.Cond.fieldLink "CircuitDeskModel" (36 : Nat) "CircuitDeskModel" "tried" "[I") ∈ lw_all := lw_g (lw_at lw_m8 199 rfl) rfl
theorem q1987 : (Jvm.Cond.fieldLink "CircuitDeskModel" (39 : Nat) "CircuitDeskModel" "best" "[I") ∈ lw_all := lw_g (lw_at lw_m8 200 rfl) rfl
theorem q1988 : (Jvm.Cond.fieldLink "CircuitDeskModel" (42 : Nat) "CircuitDeskModel" "isRoomy" "[Z") ∈ lw_all := lw_g (lw_at lw_m8 201 rfl) rfl
theorem q1989 : (Jvm.Cond.fieldLink "CircuitDeskModel" (265 : Nat) "CircuitDeskModel" "triedLength" "I") ∈ lw_all := lw_g (lw_at lw_m8 202 rfl) rfl
theorem q1990 : (Jvm.Cond.fieldLink "CircuitDeskModel" (268 : Nat) "CircuitDeskModel" "triedDelay" "I") ∈ lw_all := lw_g (lw_at lw_m8 203 rfl) rfl
theorem q1991 : (Jvm.Cond.fieldLink "CircuitDeskModel" (271 : Nat) "CircuitDeskModel" "bestLength" "I") ∈ lw_all := lw_g (lw_at lw_m8 204 rfl) rfl
theorem q1992 : (Jvm.Cond.fieldLink "CircuitDeskModel" (274 : Nat) "CircuitDeskModel" "bestDelay" "I") ∈ lw_all := lw_g (lw_at lw_m8 205 rfl) rfl
theorem q1993 : (Jvm.Cond.fieldLink "CircuitDeskModel" (45 : Nat) "CircuitDeskModel" "keptDraft" "[I") ∈ lw_all := lw_g (lw_at lw_m8 206 rfl) rfl
theorem q1994 : (Jvm.Cond.laysFinal "CircuitDeskModel" "CircuitDeskModel" "state" "[I") ∈ lw_all := lw_g (lw_at lw_m8 207 rfl) rfl
theorem q1995 : (Jvm.Cond.soleField "CircuitDeskModel" "state") ∈ lw_all := lw_g (lw_at lw_m8 208 rfl) rfl
theorem q1996 : (Jvm.Cond.laysFinal "CircuitDeskModel" "CircuitDeskModel" "backup" "[I") ∈ lw_all := lw_g (lw_at lw_m8 209 rfl) rfl
theorem q1997 : (Jvm.Cond.soleField "CircuitDeskModel" "backup") ∈ lw_all := lw_g (lw_at lw_m8 210 rfl) rfl
theorem q1998 : (Jvm.Cond.laysFinal "CircuitDeskModel" "CircuitDeskModel" "aside" "[I") ∈ lw_all := lw_g (lw_at lw_m8 211 rfl) rfl
theorem q1999 : (Jvm.Cond.soleField "CircuitDeskModel" "aside") ∈ lw_all := lw_g (lw_at lw_m8 212 rfl) rfl
theorem q2000 : (Jvm.Cond.laysFinal "CircuitDeskModel" "CircuitDeskModel" "saved" "[I") ∈ lw_all := lw_g (lw_at lw_m8 213 rfl) rfl
theorem q2001 : (Jvm.Cond.soleField "CircuitDeskModel" "saved") ∈ lw_all := lw_g (lw_at lw_m8 214 rfl) rfl
theorem q2002 : (Jvm.Cond.laysFinal "CircuitDeskModel" "CircuitDeskModel" "isSaved" "[Z") ∈ lw_all := lw_g (lw_at lw_m8 215 rfl) rfl
theorem q2003 : (Jvm.Cond.soleField "CircuitDeskModel" "isSaved") ∈ lw_all := lw_g (lw_at lw_m8 216 rfl) rfl
theorem q2004 : (Jvm.Cond.laysFinal "CircuitDeskModel" "CircuitDeskModel" "draftRow" "[I") ∈ lw_all := lw_g (lw_at lw_m8 217 rfl) rfl
theorem q2005 : (Jvm.Cond.soleField "CircuitDeskModel" "draftRow") ∈ lw_all := lw_g (lw_at lw_m8 218 rfl) rfl
theorem q2006 : (Jvm.Cond.lays "CircuitDeskModel" "CircuitDeskModel" "draftLength" "I") ∈ lw_all := lw_g (lw_at lw_m8 219 rfl) rfl
theorem q2007 : (Jvm.Cond.soleField "CircuitDeskModel" "draftLength") ∈ lw_all := lw_g (lw_at lw_m8 220 rfl) rfl
theorem q2008 : (Jvm.Cond.lays "CircuitDeskModel" "CircuitDeskModel" "thrown" "I") ∈ lw_all := lw_g (lw_at lw_m8 221 rfl) rfl
theorem q2009 : (Jvm.Cond.soleField "CircuitDeskModel" "thrown") ∈ lw_all := lw_g (lw_at lw_m8 222 rfl) rfl
theorem q2010 : (Jvm.Cond.laysFinal "CircuitDeskModel" "CircuitDeskModel" "text" "[I") ∈ lw_all := lw_g (lw_at lw_m8 223 rfl) rfl
theorem q2011 : (Jvm.Cond.soleField "CircuitDeskModel" "text") ∈ lw_all := lw_g (lw_at lw_m8 224 rfl) rfl
theorem q2012 : (Jvm.Cond.lays "CircuitDeskModel" "CircuitDeskModel" "textLength" "I") ∈ lw_all := lw_g (lw_at lw_m8 225 rfl) rfl
theorem q2013 : (Jvm.Cond.soleField "CircuitDeskModel" "textLength") ∈ lw_all := lw_g (lw_at lw_m8 226 rfl) rfl
theorem q2014 : (Jvm.Cond.lays "CircuitDeskModel" "CircuitDeskModel" "position" "I") ∈ lw_all := lw_g (lw_at lw_m8 227 rfl) rfl
theorem q2015 : (Jvm.Cond.soleField "CircuitDeskModel" "position") ∈ lw_all := lw_g (lw_at lw_m8 228 rfl) rfl
theorem q2016 : (Jvm.Cond.lays "CircuitDeskModel" "CircuitDeskModel" "tokenStart" "I") ∈ lw_all := lw_g (lw_at lw_m8 229 rfl) rfl
theorem q2017 : (Jvm.Cond.soleField "CircuitDeskModel" "tokenStart") ∈ lw_all := lw_g (lw_at lw_m8 230 rfl) rfl
theorem q2018 : (Jvm.Cond.lays "CircuitDeskModel" "CircuitDeskModel" "token" "I") ∈ lw_all := lw_g (lw_at lw_m8 231 rfl) rfl
theorem q2019 : (Jvm.Cond.soleField "CircuitDeskModel" "token") ∈ lw_all := lw_g (lw_at lw_m8 232 rfl) rfl
theorem q2020 : (Jvm.Cond.lays "CircuitDeskModel" "CircuitDeskModel" "letters" "I") ∈ lw_all := lw_g (lw_at lw_m8 233 rfl) rfl
theorem q2021 : (Jvm.Cond.soleField "CircuitDeskModel" "letters") ∈ lw_all := lw_g (lw_at lw_m8 234 rfl) rfl
theorem q2022 : (Jvm.Cond.lays "CircuitDeskModel" "CircuitDeskModel" "number" "I") ∈ lw_all := lw_g (lw_at lw_m8 235 rfl) rfl
theorem q2023 : (Jvm.Cond.soleField "CircuitDeskModel" "number") ∈ lw_all := lw_g (lw_at lw_m8 236 rfl) rfl
theorem q2024 : (Jvm.Cond.lays "CircuitDeskModel" "CircuitDeskModel" "errorCode" "I") ∈ lw_all := lw_g (lw_at lw_m8 237 rfl) rfl
theorem q2025 : (Jvm.Cond.soleField "CircuitDeskModel" "errorCode") ∈ lw_all := lw_g (lw_at lw_m8 238 rfl) rfl
theorem q2026 : (Jvm.Cond.lays "CircuitDeskModel" "CircuitDeskModel" "errorPosition" "I") ∈ lw_all := lw_g (lw_at lw_m8 239 rfl) rfl
theorem q2027 : (Jvm.Cond.soleField "CircuitDeskModel" "errorPosition") ∈ lw_all := lw_g (lw_at lw_m9 0 rfl) rfl
theorem q2028 : (Jvm.Cond.lays "CircuitDeskModel" "CircuitDeskModel" "word" "J") ∈ lw_all := lw_g (lw_at lw_m9 1 rfl) rfl
theorem q2029 : (Jvm.Cond.soleField "CircuitDeskModel" "word") ∈ lw_all := lw_g (lw_at lw_m9 2 rfl) rfl
theorem q2030 : (Jvm.Cond.lays "CircuitDeskModel" "CircuitDeskModel" "holder" "I") ∈ lw_all := lw_g (lw_at lw_m9 3 rfl) rfl
theorem q2031 : (Jvm.Cond.soleField "CircuitDeskModel" "holder") ∈ lw_all := lw_g (lw_at lw_m9 4 rfl) rfl
theorem q2032 : (Jvm.Cond.lays "CircuitDeskModel" "CircuitDeskModel" "holderWay" "I") ∈ lw_all := lw_g (lw_at lw_m9 5 rfl) rfl
theorem q2033 : (Jvm.Cond.soleField "CircuitDeskModel" "holderWay") ∈ lw_all := lw_g (lw_at lw_m9 6 rfl) rfl
theorem q2034 : (Jvm.Cond.lays "CircuitDeskModel" "CircuitDeskModel" "holderIndex" "I") ∈ lw_all := lw_g (lw_at lw_m9 7 rfl) rfl
theorem q2035 : (Jvm.Cond.soleField "CircuitDeskModel" "holderIndex") ∈ lw_all := lw_g (lw_at lw_m9 8 rfl) rfl
theorem q2036 : (Jvm.Cond.laysFinal "CircuitDeskModel" "CircuitDeskModel" "tried" "[I") ∈ lw_all := lw_g (lw_at lw_m9 9 rfl) rfl
theorem q2037 : (Jvm.Cond.soleField "CircuitDeskModel" "tried") ∈ lw_all := lw_g (lw_at lw_m9 10 rfl) rfl
theorem q2038 : (Jvm.Cond.laysFinal "CircuitDeskModel" "CircuitDeskModel" "best" "[I") ∈ lw_all := lw_g (lw_at lw_m9 11 rfl) rfl
theorem q2039 : (Jvm.Cond.soleField "CircuitDeskModel" "best") ∈ lw_all := lw_g (lw_at lw_m9 12 rfl) rfl
theorem q2040 : (Jvm.Cond.laysFinal "CircuitDeskModel" "CircuitDeskModel" "isRoomy" "[Z") ∈ lw_all := lw_g (lw_at lw_m9 13 rfl) rfl
theorem q2041 : (Jvm.Cond.soleField "CircuitDeskModel" "isRoomy") ∈ lw_all := lw_g (lw_at lw_m9 14 rfl) rfl
theorem q2042 : (Jvm.Cond.lays "CircuitDeskModel" "CircuitDeskModel" "triedLength" "I") ∈ lw_all := lw_g (lw_at lw_m9 15 rfl) rfl
theorem q2043 : (Jvm.Cond.soleField "CircuitDeskModel" "triedLength") ∈ lw_all := lw_g (lw_at lw_m9 16 rfl) rfl
theorem q2044 : (Jvm.Cond.lays "CircuitDeskModel" "CircuitDeskModel" "triedDelay" "I") ∈ lw_all := lw_g (lw_at lw_m9 17 rfl) rfl
theorem q2045 : (Jvm.Cond.soleField "CircuitDeskModel" "triedDelay") ∈ lw_all := lw_g (lw_at lw_m9 18 rfl) rfl
theorem q2046 : (Jvm.Cond.lays "CircuitDeskModel" "CircuitDeskModel" "bestLength" "I") ∈ lw_all := lw_g (lw_at lw_m9 19 rfl) rfl
theorem q2047 : (Jvm.Cond.soleField "CircuitDeskModel" "bestLength") ∈ lw_all := lw_g (lw_at lw_m9 20 rfl) rfl
theorem q2048 : (Jvm.Cond.lays "CircuitDeskModel" "CircuitDeskModel" "bestDelay" "I") ∈ lw_all := lw_g (lw_at lw_m9 21 rfl) rfl
theorem q2049 : (Jvm.Cond.soleField "CircuitDeskModel" "bestDelay") ∈ lw_all := lw_g (lw_at lw_m9 22 rfl) rfl
theorem q2050 : (Jvm.Cond.laysFinal "CircuitDeskModel" "CircuitDeskModel" "keptDraft" "[I") ∈ lw_all := lw_g (lw_at lw_m9 23 rfl) rfl
theorem q2051 : (Jvm.Cond.soleField "CircuitDeskModel" "keptDraft") ∈ lw_all := lw_g (lw_at lw_m9 24 rfl) rfl
theorem q2052 : (Jvm.Cond.superclass "CircuitDeskModel" "java/lang/Object") ∈ lw_all := lw_g (lw_at lw_m9 25 rfl) rfl
theorem q2053 : (Jvm.Cond.methodLink "CircuitDeskLaw" (120 : Nat) ({ cls := "CircuitDeskModel", name := "thrown", desc := "()I" } : Jvm.MethodName)) ∈ lw_all := lw_g (lw_at lw_m9 26 rfl) rfl
theorem q2054 : (Jvm.Cond.instanceMethod ({ cls := "CircuitDeskModel", name := "thrown", desc := "()I" } : Jvm.MethodName)) ∈ lw_all := lw_g (lw_at lw_m9 27 rfl) rfl
theorem q2055 : (Jvm.Cond.selects "CircuitDeskModel" ({ cls := "CircuitDeskModel", name := "thrown", desc := "()I" } : Jvm.MethodName) ({ cls := "CircuitDeskModel", name := "thrown", desc := "()I" } : Jvm.MethodName)) ∈ lw_all := lw_g (lw_at lw_m9 28 rfl) rfl
theorem q2056 : (Jvm.Cond.code ({ cls := "CircuitDeskModel", name := "thrown", desc := "()I" } : Jvm.MethodName) prog_17_method_2_code (1 : Nat) (Option.some Jvm.ClassFile.FieldType.int)) ∈ lw_all := lw_g (lw_at lw_m9 29 rfl) rfl
theorem q2057 : (Jvm.Cond.methodLink "CircuitDeskLaw" (119 : Nat) ({ cls := "CircuitDeskModel", name := "appendText", desc := "(I)I" } : Jvm.MethodName)) ∈ lw_all := lw_g (lw_at lw_m9 30 rfl) rfl
theorem q2058 : (Jvm.Cond.instanceMethod ({ cls := "CircuitDeskModel", name := "appendText", desc := "(I)I" } : Jvm.MethodName)) ∈ lw_all := lw_g (lw_at lw_m9 31 rfl) rfl
theorem q2059 : (Jvm.Cond.selects "CircuitDeskModel" ({ cls := "CircuitDeskModel", name := "appendText", desc := "(I)I" } : Jvm.MethodName) ({ cls := "CircuitDeskModel", name := "appendText", desc := "(I)I" } : Jvm.MethodName)) ∈ lw_all := lw_g (lw_at lw_m9 32 rfl) rfl
theorem q2060 : (Jvm.Cond.code ({ cls := "CircuitDeskModel", name := "appendText", desc := "(I)I" } : Jvm.MethodName) prog_17_method_16_code (3 : Nat) (Option.some Jvm.ClassFile.FieldType.int)) ∈ lw_all := lw_g (lw_at lw_m9 33 rfl) rfl
theorem q2061 : (Jvm.Cond.methodLink "CircuitDeskModel" (61 : Nat) ({ cls := "CircuitDeskModel", name := "fail", desc := "(I)I" } : Jvm.MethodName)) ∈ lw_all := lw_g (lw_at lw_m9 34 rfl) rfl
theorem q2062 : (Jvm.Cond.privateMethod ({ cls := "CircuitDeskModel", name := "fail", desc := "(I)I" } : Jvm.MethodName)) ∈ lw_tbl := lw_at lw_m9 35 rfl
theorem q2063 : (Jvm.Cond.instanceMethod ({ cls := "CircuitDeskModel", name := "fail", desc := "(I)I" } : Jvm.MethodName)) ∈ lw_all := lw_g (lw_at lw_m9 36 rfl) rfl
theorem q2064 : (Jvm.Cond.code ({ cls := "CircuitDeskModel", name := "fail", desc := "(I)I" } : Jvm.MethodName) prog_17_method_3_code (2 : Nat) (Option.some Jvm.ClassFile.FieldType.int)) ∈ lw_all := lw_g (lw_at lw_m9 37 rfl) rfl
theorem q2065 : (Jvm.Cond.methodLink "CircuitDeskLaw" (126 : Nat) ({ cls := "CircuitDeskModel", name := "truncateText", desc := "(I)I" } : Jvm.MethodName)) ∈ lw_all := lw_g (lw_at lw_m9 38 rfl) rfl
theorem q2066 : (Jvm.Cond.instanceMethod ({ cls := "CircuitDeskModel", name := "truncateText", desc := "(I)I" } : Jvm.MethodName)) ∈ lw_all := lw_g (lw_at lw_m9 39 rfl) rfl
theorem q2067 : (Jvm.Cond.selects "CircuitDeskModel" ({ cls := "CircuitDeskModel", name := "truncateText", desc := "(I)I" } : Jvm.MethodName) ({ cls := "CircuitDeskModel", name := "truncateText", desc := "(I)I" } : Jvm.MethodName)) ∈ lw_all := lw_g (lw_at lw_m9 40 rfl) rfl
theorem q2068 : (Jvm.Cond.code ({ cls := "CircuitDeskModel", name := "truncateText", desc := "(I)I" } : Jvm.MethodName) prog_17_method_17_code (2 : Nat) (Option.some Jvm.ClassFile.FieldType.int)) ∈ lw_all := lw_g (lw_at lw_m9 41 rfl) rfl
theorem q2069 : (Jvm.Cond.methodLink "CircuitDeskModel" (54 : Nat) ({ cls := "CircuitDeskModel", name := "isBetween", desc := "(III)Z" } : Jvm.MethodName)) ∈ lw_all := lw_g (lw_at lw_m9 42 rfl) rfl
theorem q2070 : (Jvm.Cond.static ({ cls := "CircuitDeskModel", name := "isBetween", desc := "(III)Z" } : Jvm.MethodName)) ∈ lw_all := lw_g (lw_at lw_m9 43 rfl) rfl
theorem q2071 : (Jvm.Cond.code ({ cls := "CircuitDeskModel", name := "isBetween", desc := "(III)Z" } : Jvm.MethodName) prog_17_method_4_code (3 : Nat) (Option.some Jvm.ClassFile.FieldType.boolean)) ∈ lw_all := lw_g (lw_at lw_m9 44 rfl) rfl
theorem q2072 : (Jvm.Cond.methodLink "CircuitDeskLaw" (130 : Nat) ({ cls := "CircuitDeskModel", name := "load", desc := "()I" } : Jvm.MethodName)) ∈ lw_all := lw_g (lw_at lw_m9 45 rfl) rfl
theorem q2073 : (Jvm.Cond.instanceMethod ({ cls := "CircuitDeskModel", name := "load", desc := "()I" } : Jvm.MethodName)) ∈ lw_all := lw_g (lw_at lw_m9 46 rfl) rfl
theorem q2074 : (Jvm.Cond.selects "CircuitDeskModel" ({ cls := "CircuitDeskModel", name := "load", desc := "()I" } : Jvm.MethodName) ({ cls := "CircuitDeskModel", name := "load", desc := "()I" } : Jvm.MethodName)) ∈ lw_all := lw_g (lw_at lw_m9 47 rfl) rfl
theorem q2075 : (Jvm.Cond.code ({ cls := "CircuitDeskModel", name := "load", desc := "()I" } : Jvm.MethodName) prog_17_method_35_code (1 : Nat) (Option.some Jvm.ClassFile.FieldType.int)) ∈ lw_all := lw_g (lw_at lw_m9 48 rfl) rfl
theorem q2076 : (Jvm.Cond.methodLink "CircuitDeskModel" (191 : Nat) ({ cls := "CircuitDeskModel", name := "copy", desc := "([II[II)V" } : Jvm.MethodName)) ∈ lw_all := lw_g (lw_at lw_m9 49 rfl) rfl
theorem q2077 : (Jvm.Cond.static ({ cls := "CircuitDeskModel", name := "copy", desc := "([II[II)V" } : Jvm.MethodName)) ∈ lw_all := lw_g (lw_at lw_m9 50 rfl) rfl
theorem q2078 : (Jvm.Cond.code ({ cls := "CircuitDeskModel", name := "copy", desc := "([II[II)V" } : Jvm.MethodName) prog_17_method_6_code (5 : Nat) (Option.none : Option Jvm.ClassFile.FieldType)) ∈ lw_all := lw_g (lw_at lw_m9 51 rfl) rfl
theorem q2079 : (Jvm.Cond.methodLink "CircuitDeskModel" (116 : Nat) ({ cls := "CircuitDeskModel", name := "nextToken", desc := "()V" } : Jvm.MethodName)) ∈ lw_all := lw_g (lw_at lw_m9 52 rfl) rfl
theorem q2080 : (Jvm.Cond.privateMethod ({ cls := "CircuitDeskModel", name := "nextToken", desc := "()V" } : Jvm.MethodName)) ∈ lw_tbl := lw_at lw_m9 53 rfl
theorem q2081 : (Jvm.Cond.instanceMethod ({ cls := "CircuitDeskModel", name := "nextToken", desc := "()V" } : Jvm.MethodName)) ∈ lw_all := lw_g (lw_at lw_m9 54 rfl) rfl
theorem q2082 : (Jvm.Cond.code ({ cls := "CircuitDeskModel", name := "nextToken", desc := "()V" } : Jvm.MethodName) prog_17_method_21_code (2 : Nat) (Option.none : Option Jvm.ClassFile.FieldType)) ∈ lw_all := lw_g (lw_at lw_m9 55 rfl) rfl
theorem q2083 : (Jvm.Cond.methodLink "CircuitDeskModel" (68 : Nat) ({ cls := "CircuitDeskModel", name := "byteAt", desc := "(I)I" } : Jvm.MethodName)) ∈ lw_all := lw_g (lw_at lw_m9 56 rfl) rfl
theorem q2084 : (Jvm.Cond.privateMethod ({ cls := "CircuitDeskModel", name := "byteAt", desc := "(I)I" } : Jvm.MethodName)) ∈ lw_tbl := lw_at lw_m9 57 rfl
theorem q2085 : (Jvm.Cond.instanceMethod ({ cls := "CircuitDeskModel", name := "byteAt", desc := "(I)I" } : Jvm.MethodName)) ∈ lw_all := lw_g (lw_at lw_m9 58 rfl) rfl
theorem q2086 : (Jvm.Cond.code ({ cls := "CircuitDeskModel", name := "byteAt", desc := "(I)I" } : Jvm.MethodName) prog_17_method_18_code (2 : Nat) (Option.some Jvm.ClassFile.FieldType.int)) ∈ lw_all := lw_g (lw_at lw_m9 59 rfl) rfl
theorem q2087 : (Jvm.Cond.methodLink "CircuitDeskModel" (87 : Nat) ({ cls := "CircuitDeskModel", name := "isLetter", desc := "(I)Z" } : Jvm.MethodName)) ∈ lw_all := lw_g (lw_at lw_m9 60 rfl) rfl
theorem q2088 : (Jvm.Cond.static ({ cls := "CircuitDeskModel", name := "isLetter", desc := "(I)Z" } : Jvm.MethodName)) ∈ lw_all := lw_g (lw_at lw_m9 61 rfl) rfl
theorem q2089 : (Jvm.Cond.code ({ cls := "CircuitDeskModel", name := "isLetter", desc := "(I)Z" } : Jvm.MethodName) prog_17_method_19_code (1 : Nat) (Option.some Jvm.ClassFile.FieldType.boolean)) ∈ lw_all := lw_g (lw_at lw_m9 62 rfl) rfl
theorem q2090 : (Jvm.Cond.constantLong "CircuitDeskModel" (91 : Nat) (27 : Int64)) ∈ lw_all := lw_g (lw_at lw_m9 63 rfl) rfl
theorem q2091 : (Jvm.Cond.constantLong "CircuitDeskModel" (93 : Nat) (96 : Int64)) ∈ lw_all := lw_g (lw_at lw_m9 64 rfl) rfl
theorem q2092 : (Jvm.Cond.methodLink "CircuitDeskModel" (95 : Nat) ({ cls := "CircuitDeskModel", name := "isDigit", desc := "(I)Z" } : Jvm.MethodName)) ∈ lw_all := lw_g (lw_at lw_m9 65 rfl) rfl
theorem q2093 : (Jvm.Cond.static ({ cls := "CircuitDeskModel", name := "isDigit", desc := "(I)Z" } : Jvm.MethodName)) ∈ lw_all := lw_g (lw_at lw_m9 66 rfl) rfl
theorem q2094 : (Jvm.Cond.code ({ cls := "CircuitDeskModel", name := "isDigit", desc := "(I)Z" } : Jvm.MethodName) prog_17_method_20_code (1 : Nat) (Option.some Jvm.ClassFile.FieldType.boolean)) ∈ lw_all := lw_g (lw_at lw_m9 67 rfl) rfl
theorem q2095 : (Jvm.Cond.constant "CircuitDeskModel" (98 : Nat) (10000000 : Int32)) ∈ lw_all := lw_g (lw_at lw_m9 68 rfl) rfl
theorem q2096 : (Jvm.Cond.methodLink "CircuitDeskModel" (112 : Nat) ({ cls := "CircuitDeskModel", name := "isFine", desc := "()Z" } : Jvm.MethodName)) ∈ lw_all := lw_g (lw_at lw_m9 69 rfl) rfl
theorem q2097 : (Jvm.Cond.privateMethod ({ cls := "CircuitDeskModel", name := "isFine", desc := "()Z" } : Jvm.MethodName)) ∈ lw_tbl := lw_at lw_m9 70 rfl
theorem q2098 : (Jvm.Cond.instanceMethod ({ cls := "CircuitDeskModel", name := "isFine", desc := "()Z" } : Jvm.MethodName)) ∈ lw_all := lw_g (lw_at lw_m9 71 rfl) rfl
theorem q2099 : (Jvm.Cond.code ({ cls := "CircuitDeskModel", name := "isFine", desc := "()Z" } : Jvm.MethodName) prog_17_method_24_code (1 : Nat) (Option.some Jvm.ClassFile.FieldType.boolean)) ∈ lw_all := lw_g (lw_at lw_m9 72 rfl) rfl
theorem q2100 : (Jvm.Cond.methodLink "CircuitDeskModel" (195 : Nat) ({ cls := "CircuitDeskModel", name := "parseStatement", desc := "()V" } : Jvm.MethodName)) ∈ lw_all := lw_g (lw_at lw_m9 73 rfl) rfl
theorem q2101 : (Jvm.Cond.privateMethod ({ cls := "CircuitDeskModel", name := "parseStatement", desc := "()V" } : Jvm.MethodName)) ∈ lw_tbl := lw_at lw_m9 74 rfl
theorem q2102 : (Jvm.Cond.instanceMethod ({ cls := "CircuitDeskModel", name := "parseStatement", desc := "()V" } : Jvm.MethodName)) ∈ lw_all := lw_g (lw_at lw_m9 75 rfl) rfl
theorem q2103 : (Jvm.Cond.code ({ cls := "CircuitDeskModel", name := "parseStatement", desc := "()V" } : Jvm.MethodName) prog_17_method_34_code (1 : Nat) (Option.none : Option Jvm.ClassFile.FieldType)) ∈ lw_all := lw_g (lw_at lw_m9 76 rfl) rfl
theorem q2104 : (Jvm.Cond.stringRef "CircuitDeskModel" (173 : Nat) "node") ∈ lw_tbl := lw_at lw_m9 77 rfl
theorem q2105 : (Jvm.Cond.methodLink "CircuitDeskModel" (169 : Nat) ({ cls := "CircuitDeskModel", name := "isWord", desc := "(Ljava/lang/String;)Z" } : Jvm.MethodName)) ∈ lw_all := lw_g (lw_at lw_m9 78 rfl) rfl
theorem q2106 : (Jvm.Cond.privateMethod ({ cls := "CircuitDeskModel", name := "isWord", desc := "(Ljava/lang/String;)Z" } : Jvm.MethodName)) ∈ lw_tbl := lw_at lw_m9 79 rfl
theorem q2107 : (Jvm.Cond.instanceMethod ({ cls := "CircuitDeskModel", name := "isWord", desc := "(Ljava/lang/String;)Z" } : Jvm.MethodName)) ∈ lw_all := lw_g (lw_at lw_m9 80 rfl) rfl
theorem q2108 : (Jvm.Cond.code ({ cls := "CircuitDeskModel", name := "isWord", desc := "(Ljava/lang/String;)Z" } : Jvm.MethodName) prog_17_method_22_code (5 : Nat) (Option.some Jvm.ClassFile.FieldType.boolean)) ∈ lw_all := lw_g (lw_at lw_m9 81 rfl) rfl
theorem q2109 : (Jvm.Cond.methodLink "CircuitDeskModel" (99 : Nat) ({ cls := "java/lang/String", name := "length", desc := "()I" } : Jvm.MethodName)) ∈ lw_all := lw_g (lw_at lw_m9 82 rfl) rfl
theorem q2110 : (Jvm.Cond.methodLink "CircuitDeskModel" (105 : Nat) ({ cls := "java/lang/String", name := "charAt", desc := "(I)C" } : Jvm.MethodName)) ∈ lw_all := lw_g (lw_at lw_m9 83 rfl) rfl
theorem q2111 : (Jvm.Cond.instanceMethod ({ cls := "java/lang/String", name := "charAt", desc := "(I)C" } : Jvm.MethodName)) ∈ lw_all := lw_g (lw_at lw_m9 84 rfl) rfl
theorem q2112 : (Jvm.Cond.selects "java/lang/String" ({ cls := "java/lang/String", name := "charAt", desc := "(I)C" } : Jvm.MethodName) ({ cls := "java/lang/String", name := "charAt", desc := "(I)C" } : Jvm.MethodName)) ∈ lw_all := lw_g (lw_at lw_m9 85 rfl) rfl
theorem q2113 : (Jvm.Cond.code ({ cls := "java/lang/String", name := "charAt", desc := "(I)C" } : Jvm.MethodName) prog_34_method_56_code (2 : Nat) (Option.some Jvm.ClassFile.FieldType.char)) ∈ lw_all := lw_g (lw_at lw_m9 86 rfl) rfl
theorem q2114 : (Jvm.Cond.methodLink "java/lang/String" (495 : Nat) ({ cls := "java/lang/StringLatin1", name := "charAt", desc := "([BI)C" } : Jvm.MethodName)) ∈ lw_all := lw_g (lw_at lw_m9 87 rfl) rfl
theorem q2115 : (Jvm.Cond.static ({ cls := "java/lang/StringLatin1", name := "charAt", desc := "([BI)C" } : Jvm.MethodName)) ∈ lw_all := lw_g (lw_at lw_m9 88 rfl) rfl
theorem q2116 : (Jvm.Cond.code ({ cls := "java/lang/StringLatin1", name := "charAt", desc := "([BI)C" } : Jvm.MethodName) prog_36_method_2_code (2 : Nat) (Option.some Jvm.ClassFile.FieldType.char)) ∈ lw_all := lw_g (lw_at lw_m9 89 rfl) rfl
theorem q2117 : (Jvm.Cond.methodLink "java/lang/StringLatin1" (9 : Nat) ({ cls := "java/lang/String", name := "checkIndex", desc := "(II)V" } : Jvm.MethodName)) ∈ lw_all := lw_g (lw_at lw_m9 90 rfl) rfl
theorem q2118 : (Jvm.Cond.methodLink "java/lang/String" (498 : Nat) ({ cls := "java/lang/StringUTF16", name := "charAt", desc := "([BI)C" } : Jvm.MethodName)) ∈ lw_all := lw_g (lw_at lw_m9 91 rfl) rfl
theorem q2119 : (Jvm.Cond.static ({ cls := "java/lang/StringUTF16", name := "charAt", desc := "([BI)C" } : Jvm.MethodName)) ∈ lw_all := lw_g (lw_at lw_m9 92 rfl) rfl
theorem q2120 : (Jvm.Cond.code ({ cls := "java/lang/StringUTF16", name := "charAt", desc := "([BI)C" } : Jvm.MethodName) prog_37_method_83_code (2 : Nat) (Option.some Jvm.ClassFile.FieldType.char)) ∈ lw_all := lw_g (lw_at lw_m9 93 rfl) rfl
theorem q2121 : (Jvm.Cond.methodLink "CircuitDeskModel" (175 : Nat) ({ cls := "CircuitDeskModel", name := "parseNode", desc := "()V" } : Jvm.MethodName)) ∈ lw_all := lw_g (lw_at lw_m9 94 rfl) rfl
theorem q2122 : (Jvm.Cond.privateMethod ({ cls := "CircuitDeskModel", name := "parseNode", desc := "()V" } : Jvm.MethodName)) ∈ lw_tbl := lw_at lw_m9 95 rfl
theorem q2123 : (Jvm.Cond.instanceMethod ({ cls := "CircuitDeskModel", name := "parseNode", desc := "()V" } : Jvm.MethodName)) ∈ lw_all := lw_g (lw_at lw_m9 96 rfl) rfl
theorem q2124 : (Jvm.Cond.code ({ cls := "CircuitDeskModel", name := "parseNode", desc := "()V" } : Jvm.MethodName) prog_17_method_28_code (3 : Nat) (Option.none : Option Jvm.ClassFile.FieldType)) ∈ lw_all := lw_g (lw_at lw_m9 97 rfl) rfl
theorem q2125 : (Jvm.Cond.methodLink "CircuitDeskModel" (119 : Nat) ({ cls := "CircuitDeskModel", name := "require", desc := "(ZI)V" } : Jvm.MethodName)) ∈ lw_all := lw_g (lw_at lw_m9 98 rfl) rfl
theorem q2126 : (Jvm.Cond.privateMethod ({ cls := "CircuitDeskModel", name := "require", desc := "(ZI)V" } : Jvm.MethodName)) ∈ lw_tbl := lw_at lw_m9 99 rfl
theorem q2127 : (Jvm.Cond.instanceMethod ({ cls := "CircuitDeskModel", name := "require", desc := "(ZI)V" } : Jvm.MethodName)) ∈ lw_all := lw_g (lw_at lw_m9 100 rfl) rfl
theorem q2128 : (Jvm.Cond.code ({ cls := "CircuitDeskModel", name := "require", desc := "(ZI)V" } : Jvm.MethodName) prog_17_method_23_code (3 : Nat) (Option.none : Option Jvm.ClassFile.FieldType)) ∈ lw_all := lw_g (lw_at lw_m9 101 rfl) rfl
theorem q2129 : (Jvm.Cond.methodLink "CircuitDeskModel" (127 : Nat) ({ cls := "CircuitDeskModel", name := "advance", desc := "()V" } : Jvm.MethodName)) ∈ lw_all := lw_g (lw_at lw_m9 102 rfl) rfl
theorem q2130 : (Jvm.Cond.privateMethod ({ cls := "CircuitDeskModel", name := "advance", desc := "()V" } : Jvm.MethodName)) ∈ lw_tbl := lw_at lw_m9 103 rfl
theorem q2131 : (Jvm.Cond.instanceMethod ({ cls := "CircuitDeskModel", name := "advance", desc := "()V" } : Jvm.MethodName)) ∈ lw_all := lw_g (lw_at lw_m9 104 rfl) rfl
theorem q2132 : (Jvm.Cond.code ({ cls := "CircuitDeskModel", name := "advance", desc := "()V" } : Jvm.MethodName) prog_17_method_25_code (1 : Nat) (Option.none : Option Jvm.ClassFile.FieldType)) ∈ lw_all := lw_g (lw_at lw_m9 105 rfl) rfl
theorem q2133 : (Jvm.Cond.methodLink "CircuitDeskModel" (130 : Nat) ({ cls := "CircuitDeskModel", name := "parseNumber", desc := "(II)I" } : Jvm.MethodName)) ∈ lw_all := lw_g (lw_at lw_m9 106 rfl) rfl
theorem q2134 : (Jvm.Cond.privateMethod ({ cls := "CircuitDeskModel", name := "parseNumber", desc := "(II)I" } : Jvm.MethodName)) ∈ lw_tbl := lw_at lw_m9 107 rfl
theorem q2135 : (Jvm.Cond.instanceMethod ({ cls := "CircuitDeskModel", name := "parseNumber", desc := "(II)I" } : Jvm.MethodName)) ∈ lw_all := lw_g (lw_at lw_m9 108 rfl) rfl
theorem q2136 : (Jvm.Cond.code ({ cls := "CircuitDeskModel", name := "parseNumber", desc := "(II)I" } : Jvm.MethodName) prog_17_method_27_code (4 : Nat) (Option.some Jvm.ClassFile.FieldType.int)) ∈ lw_all := lw_g (lw_at lw_m9 109 rfl) rfl
theorem q2137 : (Jvm.Cond.methodLink "CircuitDeskModel" (123 : Nat) ({ cls := "CircuitDeskModel", name := "look", desc := "(II)V" } : Jvm.MethodName)) ∈ lw_all := lw_g (lw_at lw_m9 110 rfl) rfl
theorem q2138 : (Jvm.Cond.privateMethod ({ cls := "CircuitDeskModel", name := "look", desc := "(II)V" } : Jvm.MethodName)) ∈ lw_tbl := lw_at lw_m9 111 rfl
theorem q2139 : (Jvm.Cond.instanceMethod ({ cls := "CircuitDeskModel", name := "look", desc := "(II)V" } : Jvm.MethodName)) ∈ lw_all := lw_g (lw_at lw_m9 112 rfl) rfl
theorem q2140 : (Jvm.Cond.code ({ cls := "CircuitDeskModel", name := "look", desc := "(II)V" } : Jvm.MethodName) prog_17_method_26_code (3 : Nat) (Option.none : Option Jvm.ClassFile.FieldType)) ∈ lw_all := lw_g (lw_at lw_m9 113 rfl) rfl
theorem q2141 : (Jvm.Cond.methodLink "CircuitDeskModel" (134 : Nat) ({ cls := "CircuitDeskModel", name := "appendNode", desc := "(I)I" } : Jvm.MethodName)) ∈ lw_all := lw_g (lw_at lw_m9 114 rfl) rfl
theorem q2142 : (Jvm.Cond.privateMethod ({ cls := "CircuitDeskModel", name := "appendNode", desc := "(I)I" } : Jvm.MethodName)) ∈ lw_tbl := lw_at lw_m9 115 rfl
theorem q2143 : (Jvm.Cond.instanceMethod ({ cls := "CircuitDeskModel", name := "appendNode", desc := "(I)I" } : Jvm.MethodName)) ∈ lw_all := lw_g (lw_at lw_m9 116 rfl) rfl
theorem q2144 : (Jvm.Cond.code ({ cls := "CircuitDeskModel", name := "appendNode", desc := "(I)I" } : Jvm.MethodName) prog_17_method_38_code (2 : Nat) (Option.some Jvm.ClassFile.FieldType.int)) ∈ lw_all := lw_g (lw_at lw_m9 117 rfl) rfl
theorem q2145 : (Jvm.Cond.stringRef "CircuitDeskModel" (178 : Nat) "link") ∈ lw_tbl := lw_at lw_m9 118 rfl
theorem q2146 : (Jvm.Cond.methodLink "CircuitDeskModel" (180 : Nat) ({ cls := "CircuitDeskModel", name := "parseLink", desc := "()V" } : Jvm.MethodName)) ∈ lw_all := lw_g (lw_at lw_m9 119 rfl) rfl
theorem q2147 : (Jvm.Cond.privateMethod ({ cls := "CircuitDeskModel", name := "parseLink", desc := "()V" } : Jvm.MethodName)) ∈ lw_tbl := lw_at lw_m9 120 rfl
theorem q2148 : (Jvm.Cond.instanceMethod ({ cls := "CircuitDeskModel", name := "parseLink", desc := "()V" } : Jvm.MethodName)) ∈ lw_all := lw_g (lw_at lw_m9 121 rfl) rfl
theorem q2149 : (Jvm.Cond.code ({ cls := "CircuitDeskModel", name := "parseLink", desc := "()V" } : Jvm.MethodName) prog_17_method_29_code (6 : Nat) (Option.none : Option Jvm.ClassFile.FieldType)) ∈ lw_all := lw_g (lw_at lw_m9 122 rfl) rfl
theorem q2150 : (Jvm.Cond.methodLink "CircuitDeskModel" (137 : Nat) ({ cls := "CircuitDeskModel", name := "linkOf", desc := "(II)I" } : Jvm.MethodName)) ∈ lw_all := lw_g (lw_at lw_m9 123 rfl) rfl
theorem q2151 : (Jvm.Cond.privateMethod ({ cls := "CircuitDeskModel", name := "linkOf", desc := "(II)I" } : Jvm.MethodName)) ∈ lw_tbl := lw_at lw_m9 124 rfl
theorem q2152 : (Jvm.Cond.instanceMethod ({ cls := "CircuitDeskModel", name := "linkOf", desc := "(II)I" } : Jvm.MethodName)) ∈ lw_all := lw_g (lw_at lw_m9 125 rfl) rfl
theorem q2153 : (Jvm.Cond.code ({ cls := "CircuitDeskModel", name := "linkOf", desc := "(II)I" } : Jvm.MethodName) prog_17_method_40_code (6 : Nat) (Option.some Jvm.ClassFile.FieldType.int)) ∈ lw_all := lw_g (lw_at lw_m9 126 rfl) rfl
theorem q2154 : (Jvm.Cond.methodLink "CircuitDeskModel" (201 : Nat) ({ cls := "CircuitDeskModel", name := "ofLink", desc := "(II)I" } : Jvm.MethodName)) ∈ lw_all := lw_g (lw_at lw_m9 127 rfl) rfl
theorem q2155 : (Jvm.Cond.privateMethod ({ cls := "CircuitDeskModel", name := "ofLink", desc := "(II)I" } : Jvm.MethodName)) ∈ lw_tbl := lw_at lw_m9 128 rfl
theorem q2156 : (Jvm.Cond.instanceMethod ({ cls := "CircuitDeskModel", name := "ofLink", desc := "(II)I" } : Jvm.MethodName)) ∈ lw_all := lw_g (lw_at lw_m9 129 rfl) rfl
theorem q2157 : (Jvm.Cond.code ({ cls := "CircuitDeskModel", name := "ofLink", desc := "(II)I" } : Jvm.MethodName) prog_17_method_10_code (3 : Nat) (Option.some Jvm.ClassFile.FieldType.int)) ∈ lw_all := lw_g (lw_at lw_m9 130 rfl) rfl
theorem q2158 : (Jvm.Cond.methodLink "CircuitDeskModel" (140 : Nat) ({ cls := "CircuitDeskModel", name := "appendLink", desc := "(IIII)I" } : Jvm.MethodName)) ∈ lw_all := lw_g (lw_at lw_m9 131 rfl) rfl
theorem q2159 : (Jvm.Cond.privateMethod ({ cls := "CircuitDeskModel", name := "appendLink", desc := "(IIII)I" } : Jvm.MethodName)) ∈ lw_tbl := lw_at lw_m9 132 rfl
theorem q2160 : (Jvm.Cond.instanceMethod ({ cls := "CircuitDeskModel", name := "appendLink", desc := "(IIII)I" } : Jvm.MethodName)) ∈ lw_all := lw_g (lw_at lw_m9 133 rfl) rfl
theorem q2161 : (Jvm.Cond.code ({ cls := "CircuitDeskModel", name := "appendLink", desc := "(IIII)I" } : Jvm.MethodName) prog_17_method_41_code (6 : Nat) (Option.some Jvm.ClassFile.FieldType.int)) ∈ lw_all := lw_g (lw_at lw_m9 134 rfl) rfl
theorem q2162 : (Jvm.Cond.stringRef "CircuitDeskModel" (183 : Nat) "circuit") ∈ lw_tbl := lw_at lw_m9 135 rfl
theorem q2163 : (Jvm.Cond.methodLink "CircuitDeskModel" (185 : Nat) ({ cls := "CircuitDeskModel", name := "parseCircuit", desc := "()V" } : Jvm.MethodName)) ∈ lw_all := lw_g (lw_at lw_m9 136 rfl) rfl
theorem q2164 : (Jvm.Cond.privateMethod ({ cls := "CircuitDeskModel", name := "parseCircuit", desc := "()V" } : Jvm.MethodName)) ∈ lw_tbl := lw_at lw_m9 137 rfl
theorem q2165 : (Jvm.Cond.instanceMethod ({ cls := "CircuitDeskModel", name := "parseCircuit", desc := "()V" } : Jvm.MethodName)) ∈ lw_all := lw_g (lw_at lw_m9 138 rfl) rfl
theorem q2166 : (Jvm.Cond.code ({ cls := "CircuitDeskModel", name := "parseCircuit", desc := "()V" } : Jvm.MethodName) prog_17_method_32_code (4 : Nat) (Option.none : Option Jvm.ClassFile.FieldType)) ∈ lw_all := lw_g (lw_at lw_m9 139 rfl) rfl
theorem q2167 : (Jvm.Cond.methodLink "CircuitDeskModel" (160 : Nat) ({ cls := "CircuitDeskModel", name := "appendCircuit", desc := "(II)I" } : Jvm.MethodName)) ∈ lw_all := lw_g (lw_at lw_m9 140 rfl) rfl
theorem q2168 : (Jvm.Cond.privateMethod ({ cls := "CircuitDeskModel", name := "appendCircuit", desc := "(II)I" } : Jvm.MethodName)) ∈ lw_tbl := lw_at lw_m9 141 rfl
theorem q2169 : (Jvm.Cond.instanceMethod ({ cls := "CircuitDeskModel", name := "appendCircuit", desc := "(II)I" } : Jvm.MethodName)) ∈ lw_all := lw_g (lw_at lw_m9 142 rfl) rfl
theorem q2170 : (Jvm.Cond.code ({ cls := "CircuitDeskModel", name := "appendCircuit", desc := "(II)I" } : Jvm.MethodName) prog_17_method_75_code (5 : Nat) (Option.some Jvm.ClassFile.FieldType.int)) ∈ lw_all := lw_g (lw_at lw_m9 143 rfl) rfl
theorem q2171 : (Jvm.Cond.methodLink "CircuitDeskModel" (296 : Nat) ({ cls := "CircuitDeskModel", name := "put", desc := "(III)V" } : Jvm.MethodName)) ∈ lw_all := lw_g (lw_at lw_m9 144 rfl) rfl
theorem q2172 : (Jvm.Cond.privateMethod ({ cls := "CircuitDeskModel", name := "put", desc := "(III)V" } : Jvm.MethodName)) ∈ lw_tbl := lw_at lw_m9 145 rfl
theorem q2173 : (Jvm.Cond.instanceMethod ({ cls := "CircuitDeskModel", name := "put", desc := "(III)V" } : Jvm.MethodName)) ∈ lw_all := lw_g (lw_at lw_m9 146 rfl) rfl
theorem q2174 : (Jvm.Cond.code ({ cls := "CircuitDeskModel", name := "put", desc := "(III)V" } : Jvm.MethodName) prog_17_method_12_code (4 : Nat) (Option.none : Option Jvm.ClassFile.FieldType)) ∈ lw_all := lw_g (lw_at lw_m9 147 rfl) rfl
theorem q2175 : (Jvm.Cond.methodLink "CircuitDeskModel" (163 : Nat) ({ cls := "CircuitDeskModel", name := "parseWayNode", desc := "(I)V" } : Jvm.MethodName)) ∈ lw_all := lw_g (lw_at lw_m9 148 rfl) rfl
theorem q2176 : (Jvm.Cond.privateMethod ({ cls := "CircuitDeskModel", name := "parseWayNode", desc := "(I)V" } : Jvm.MethodName)) ∈ lw_tbl := lw_at lw_m9 149 rfl
theorem q2177 : (Jvm.Cond.instanceMethod ({ cls := "CircuitDeskModel", name := "parseWayNode", desc := "(I)V" } : Jvm.MethodName)) ∈ lw_all := lw_g (lw_at lw_m9 150 rfl) rfl
theorem q2178 : (Jvm.Cond.code ({ cls := "CircuitDeskModel", name := "parseWayNode", desc := "(I)V" } : Jvm.MethodName) prog_17_method_30_code (5 : Nat) (Option.none : Option Jvm.ClassFile.FieldType)) ∈ lw_all := lw_g (lw_at lw_m9 151 rfl) rfl
theorem q2179 : (Jvm.Cond.methodLink "CircuitDeskModel" (144 : Nat) ({ cls := "CircuitDeskModel", name := "wayPlace", desc := "(II)I" } : Jvm.MethodName)) ∈ lw_all := lw_g (lw_at lw_m9 152 rfl) rfl
theorem q2180 : (Jvm.Cond.static ({ cls := "CircuitDeskModel", name := "wayPlace", desc := "(II)I" } : Jvm.MethodName)) ∈ lw_all := lw_g (lw_at lw_m9 153 rfl) rfl
theorem q2181 : (Jvm.Cond.code ({ cls := "CircuitDeskModel", name := "wayPlace", desc := "(II)I" } : Jvm.MethodName) prog_17_method_14_code (2 : Nat) (Option.some Jvm.ClassFile.FieldType.int)) ∈ lw_all := lw_g (lw_at lw_m9 154 rfl) rfl
theorem q2182 : (Jvm.Cond.methodLink "CircuitDeskModel" (147 : Nat) ({ cls := "CircuitDeskModel", name := "canFollow", desc := "(III)Z" } : Jvm.MethodName)) ∈ lw_all := lw_g (lw_at lw_m9 155 rfl) rfl
theorem q2183 : (Jvm.Cond.privateMethod ({ cls := "CircuitDeskModel", name := "canFollow", desc := "(III)Z" } : Jvm.MethodName)) ∈ lw_tbl := lw_at lw_m9 156 rfl
theorem q2184 : (Jvm.Cond.instanceMethod ({ cls := "CircuitDeskModel", name := "canFollow", desc := "(III)Z" } : Jvm.MethodName)) ∈ lw_all := lw_g (lw_at lw_m9 157 rfl) rfl
theorem q2185 : (Jvm.Cond.code ({ cls := "CircuitDeskModel", name := "canFollow", desc := "(III)Z" } : Jvm.MethodName) prog_17_method_31_code (5 : Nat) (Option.some Jvm.ClassFile.FieldType.boolean)) ∈ lw_all := lw_g (lw_at lw_m9 158 rfl) rfl
theorem q2186 : (Jvm.Cond.methodLink "CircuitDeskModel" (150 : Nat) ({ cls := "CircuitDeskModel", name := "of", desc := "(II)I" } : Jvm.MethodName)) ∈ lw_all := lw_g (lw_at lw_m9 159 rfl) rfl
theorem q2187 : (Jvm.Cond.privateMethod ({ cls := "CircuitDeskModel", name := "of", desc := "(II)I" } : Jvm.MethodName)) ∈ lw_tbl := lw_at lw_m9 160 rfl
theorem q2188 : (Jvm.Cond.instanceMethod ({ cls := "CircuitDeskModel", name := "of", desc := "(II)I" } : Jvm.MethodName)) ∈ lw_all := lw_g (lw_at lw_m9 161 rfl) rfl
theorem q2189 : (Jvm.Cond.code ({ cls := "CircuitDeskModel", name := "of", desc := "(II)I" } : Jvm.MethodName) prog_17_method_11_code (3 : Nat) (Option.some Jvm.ClassFile.FieldType.int)) ∈ lw_all := lw_g (lw_at lw_m9 162 rfl) rfl
theorem q2190 : (Jvm.Cond.methodLink "CircuitDeskModel" (153 : Nat) ({ cls := "CircuitDeskModel", name := "hasRoom", desc := "(III)Z" } : Jvm.MethodName)) ∈ lw_all := lw_g (lw_at lw_m9 163 rfl) rfl
theorem q2191 : (Jvm.Cond.privateMethod ({ cls := "CircuitDeskModel", name := "hasRoom", desc := "(III)Z" } : Jvm.MethodName)) ∈ lw_tbl := lw_at lw_m9 164 rfl
theorem q2192 : (Jvm.Cond.instanceMethod ({ cls := "CircuitDeskModel", name := "hasRoom", desc := "(III)Z" } : Jvm.MethodName)) ∈ lw_all := lw_g (lw_at lw_m9 165 rfl) rfl
theorem q2193 : (Jvm.Cond.code ({ cls := "CircuitDeskModel", name := "hasRoom", desc := "(III)Z" } : Jvm.MethodName) prog_17_method_45_code (4 : Nat) (Option.some Jvm.ClassFile.FieldType.boolean)) ∈ lw_all := lw_g (lw_at lw_m9 166 rfl) rfl
theorem q2194 : (Jvm.Cond.methodLink "CircuitDeskModel" (211 : Nat) ({ cls := "CircuitDeskModel", name := "reserved", desc := "(II)I" } : Jvm.MethodName)) ∈ lw_all := lw_g (lw_at lw_m9 167 rfl) rfl
theorem q2195 : (Jvm.Cond.privateMethod ({ cls := "CircuitDeskModel", name := "reserved", desc := "(II)I" } : Jvm.MethodName)) ∈ lw_tbl := lw_at lw_m9 168 rfl
theorem q2196 : (Jvm.Cond.instanceMethod ({ cls := "CircuitDeskModel", name := "reserved", desc := "(II)I" } : Jvm.MethodName)) ∈ lw_all := lw_g (lw_at lw_m9 169 rfl) rfl
theorem q2197 : (Jvm.Cond.code ({ cls := "CircuitDeskModel", name := "reserved", desc := "(II)I" } : Jvm.MethodName) prog_17_method_44_code (6 : Nat) (Option.some Jvm.ClassFile.FieldType.int)) ∈ lw_all := lw_g (lw_at lw_m9 170 rfl) rfl
theorem q2198 : (Jvm.Cond.methodLink "CircuitDeskModel" (207 : Nat) ({ cls := "CircuitDeskModel", name := "usesLink", desc := "(II)Z" } : Jvm.MethodName)) ∈ lw_all := lw_g (lw_at lw_m9 171 rfl) rfl
theorem q2199 : (Jvm.Cond.privateMethod ({ cls := "CircuitDeskModel", name := "usesLink", desc := "(II)Z" } : Jvm.MethodName)) ∈ lw_tbl := lw_at lw_m9 172 rfl
theorem q2200 : (Jvm.Cond.instanceMethod ({ cls := "CircuitDeskModel", name := "usesLink", desc := "(II)Z" } : Jvm.MethodName)) ∈ lw_all := lw_g (lw_at lw_m9 173 rfl) rfl
theorem q2201 : (Jvm.Cond.code ({ cls := "CircuitDeskModel", name := "usesLink", desc := "(II)Z" } : Jvm.MethodName) prog_17_method_43_code (4 : Nat) (Option.some Jvm.ClassFile.FieldType.boolean)) ∈ lw_all := lw_g (lw_at lw_m9 174 rfl) rfl
theorem q2202 : (Jvm.Cond.methodLink "CircuitDeskModel" (156 : Nat) ({ cls := "CircuitDeskModel", name := "appendToWay", desc := "(IIII)Z" } : Jvm.MethodName)) ∈ lw_all := lw_g (lw_at lw_m9 175 rfl) rfl
theorem q2203 : (Jvm.Cond.privateMethod ({ cls := "CircuitDeskModel", name := "appendToWay", desc := "(IIII)Z" } : Jvm.MethodName)) ∈ lw_tbl := lw_at lw_m9 176 rfl
theorem q2204 : (Jvm.Cond.instanceMethod ({ cls := "CircuitDeskModel", name := "appendToWay", desc := "(IIII)Z" } : Jvm.MethodName)) ∈ lw_all := lw_g (lw_at lw_m9 177 rfl) rfl
theorem q2205 : (Jvm.Cond.code ({ cls := "CircuitDeskModel", name := "appendToWay", desc := "(IIII)Z" } : Jvm.MethodName) prog_17_method_54_code (9 : Nat) (Option.some Jvm.ClassFile.FieldType.boolean)) ∈ lw_all := lw_g (lw_at lw_m9 178 rfl) rfl
theorem q2206 : (Jvm.Cond.methodLink "CircuitDeskModel" (238 : Nat) ({ cls := "CircuitDeskModel", name := "lowestFree", desc := "(I)I" } : Jvm.MethodName)) ∈ lw_all := lw_g (lw_at lw_m9 179 rfl) rfl
theorem q2207 : (Jvm.Cond.privateMethod ({ cls := "CircuitDeskModel", name := "lowestFree", desc := "(I)I" } : Jvm.MethodName)) ∈ lw_tbl := lw_at lw_m9 180 rfl
theorem q2208 : (Jvm.Cond.instanceMethod ({ cls := "CircuitDeskModel", name := "lowestFree", desc := "(I)I" } : Jvm.MethodName)) ∈ lw_all := lw_g (lw_at lw_m9 181 rfl) rfl
theorem q2209 : (Jvm.Cond.code ({ cls := "CircuitDeskModel", name := "lowestFree", desc := "(I)I" } : Jvm.MethodName) prog_17_method_50_code (3 : Nat) (Option.some Jvm.ClassFile.FieldType.int)) ∈ lw_all := lw_g (lw_at lw_m9 182 rfl) rfl
theorem q2210 : (Jvm.Cond.methodLink "CircuitDeskModel" (232 : Nat) ({ cls := "CircuitDeskModel", name := "findHolder", desc := "(II)Z" } : Jvm.MethodName)) ∈ lw_all := lw_g (lw_at lw_m9 183 rfl) rfl
theorem q2211 : (Jvm.Cond.privateMethod ({ cls := "CircuitDeskModel", name := "findHolder", desc := "(II)Z" } : Jvm.MethodName)) ∈ lw_tbl := lw_at lw_m9 184 rfl
theorem q2212 : (Jvm.Cond.instanceMethod ({ cls := "CircuitDeskModel", name := "findHolder", desc := "(II)Z" } : Jvm.MethodName)) ∈ lw_all := lw_g (lw_at lw_m9 185 rfl) rfl
theorem q2213 : (Jvm.Cond.code ({ cls := "CircuitDeskModel", name := "findHolder", desc := "(II)Z" } : Jvm.MethodName) prog_17_method_48_code (7 : Nat) (Option.some Jvm.ClassFile.FieldType.boolean)) ∈ lw_all := lw_g (lw_at lw_m9 186 rfl) rfl
theorem q2214 : (Jvm.Cond.methodLink "CircuitDeskModel" (241 : Nat) ({ cls := "CircuitDeskModel", name := "countLabels", desc := "(II)I" } : Jvm.MethodName)) ∈ lw_all := lw_g (lw_at lw_m9 187 rfl) rfl
theorem q2215 : (Jvm.Cond.privateMethod ({ cls := "CircuitDeskModel", name := "countLabels", desc := "(II)I" } : Jvm.MethodName)) ∈ lw_tbl := lw_at lw_m9 188 rfl
theorem q2216 : (Jvm.Cond.instanceMethod ({ cls := "CircuitDeskModel", name := "countLabels", desc := "(II)I" } : Jvm.MethodName)) ∈ lw_all := lw_g (lw_at lw_m9 189 rfl) rfl
theorem q2217 : (Jvm.Cond.code ({ cls := "CircuitDeskModel", name := "countLabels", desc := "(II)I" } : Jvm.MethodName) prog_17_method_52_code (11 : Nat) (Option.some Jvm.ClassFile.FieldType.int)) ∈ lw_all := lw_g (lw_at lw_m9 190 rfl) rfl
theorem q2218 : (Jvm.Cond.methodLink "CircuitDeskModel" (244 : Nat) ({ cls := "CircuitDeskModel", name := "lenderFor", desc := "(I)I" } : Jvm.MethodName)) ∈ lw_all := lw_g (lw_at lw_m9 191 rfl) rfl
theorem q2219 : (Jvm.Cond.privateMethod ({ cls := "CircuitDeskModel", name := "lenderFor", desc := "(I)I" } : Jvm.MethodName)) ∈ lw_tbl := lw_at lw_m9 192 rfl
theorem q2220 : (Jvm.Cond.instanceMethod ({ cls := "CircuitDeskModel", name := "lenderFor", desc := "(I)I" } : Jvm.MethodName)) ∈ lw_all := lw_g (lw_at lw_m9 193 rfl) rfl
theorem q2221 : (Jvm.Cond.code ({ cls := "CircuitDeskModel", name := "lenderFor", desc := "(I)I" } : Jvm.MethodName) prog_17_method_53_code (6 : Nat) (Option.some Jvm.ClassFile.FieldType.int)) ∈ lw_all := lw_g (lw_at lw_m9 194 rfl) rfl
theorem q2222 : (Jvm.Cond.methodLink "CircuitDeskModel" (235 : Nat) ({ cls := "CircuitDeskModel", name := "freeLabels", desc := "(I)I" } : Jvm.MethodName)) ∈ lw_all := lw_g (lw_at lw_m9 195 rfl) rfl
theorem q2223 : (Jvm.Cond.privateMethod ({ cls := "CircuitDeskModel", name := "freeLabels", desc := "(I)I" } : Jvm.MethodName)) ∈ lw_tbl := lw_at lw_m9 196 rfl
theorem q2224 : (Jvm.Cond.instanceMethod ({ cls := "CircuitDeskModel", name := "freeLabels", desc := "(I)I" } : Jvm.MethodName)) ∈ lw_all := lw_g (lw_at lw_m9 197 rfl) rfl
theorem q2225 : (Jvm.Cond.code ({ cls := "CircuitDeskModel", name := "freeLabels", desc := "(I)I" } : Jvm.MethodName) prog_17_method_49_code (4 : Nat) (Option.some Jvm.ClassFile.FieldType.int)) ∈ lw_all := lw_g (lw_at lw_m9 198 rfl) rfl
theorem q2226 : (Jvm.Cond.methodLink "CircuitDeskModel" (247 : Nat) ({ cls := "CircuitDeskModel", name := "highestFree", desc := "(I)I" } : Jvm.MethodName)) ∈ lw_all := lw_g (lw_at lw_m9 199 rfl) rfl
theorem q2227 : (Jvm.Cond.privateMethod ({ cls := "CircuitDeskModel", name := "highestFree", desc := "(I)I" } : Jvm.MethodName)) ∈ lw_tbl := lw_at lw_m9 200 rfl
theorem q2228 : (Jvm.Cond.instanceMethod ({ cls := "CircuitDeskModel", name := "highestFree", desc := "(I)I" } : Jvm.MethodName)) ∈ lw_all := lw_g (lw_at lw_m9 201 rfl) rfl
theorem q2229 : (Jvm.Cond.code ({ cls := "CircuitDeskModel", name := "highestFree", desc := "(I)I" } : Jvm.MethodName) prog_17_method_51_code (3 : Nat) (Option.some Jvm.ClassFile.FieldType.int)) ∈ lw_all := lw_g (lw_at lw_m9 202 rfl) rfl
theorem q2230 : (Jvm.Cond.methodLink "CircuitDeskModel" (188 : Nat) ({ cls := "CircuitDeskModel", name := "parseSet", desc := "()V" } : Jvm.MethodName)) ∈ lw_all := lw_g (lw_at lw_m9 203 rfl) rfl
theorem q2231 : (Jvm.Cond.privateMethod ({ cls := "CircuitDeskModel", name := "parseSet", desc := "()V" } : Jvm.MethodName)) ∈ lw_tbl := lw_at lw_m9 204 rfl
theorem q2232 : (Jvm.Cond.instanceMethod ({ cls := "CircuitDeskModel", name := "parseSet", desc := "()V" } : Jvm.MethodName)) ∈ lw_all := lw_g (lw_at lw_m9 205 rfl) rfl
theorem q2233 : (Jvm.Cond.code ({ cls := "CircuitDeskModel", name := "parseSet", desc := "()V" } : Jvm.MethodName) prog_17_method_33_code (3 : Nat) (Option.none : Option Jvm.ClassFile.FieldType)) ∈ lw_all := lw_g (lw_at lw_m9 206 rfl) rfl
theorem q2234 : (Jvm.Cond.stringRef "CircuitDeskModel" (167 : Nat) "set") ∈ lw_tbl := lw_at lw_m9 207 rfl
theorem q2235 : (Jvm.Cond.methodLink "CircuitDeskLaw" (134 : Nat) ({ cls := "CircuitDeskModel", name := "errorCode", desc := "()I" } : Jvm.MethodName)) ∈ lw_all := lw_g (lw_at lw_m9 208 rfl) rfl
theorem q2236 : (Jvm.Cond.instanceMethod ({ cls := "CircuitDeskModel", name := "errorCode", desc := "()I" } : Jvm.MethodName)) ∈ lw_all := lw_g (lw_at lw_m9 209 rfl) rfl
theorem q2237 : (Jvm.Cond.selects "CircuitDeskModel" ({ cls := "CircuitDeskModel", name := "errorCode", desc := "()I" } : Jvm.MethodName) ({ cls := "CircuitDeskModel", name := "errorCode", desc := "()I" } : Jvm.MethodName)) ∈ lw_all := lw_g (lw_at lw_m9 210 rfl) rfl
theorem q2238 : (Jvm.Cond.code ({ cls := "CircuitDeskModel", name := "errorCode", desc := "()I" } : Jvm.MethodName) prog_17_method_36_code (1 : Nat) (Option.some Jvm.ClassFile.FieldType.int)) ∈ lw_all := lw_g (lw_at lw_m9 211 rfl) rfl
theorem q2239 : (Jvm.Cond.methodLink "CircuitDeskLaw" (138 : Nat) ({ cls := "CircuitDeskModel", name := "errorPosition", desc := "()I" } : Jvm.MethodName)) ∈ lw_all := lw_g (lw_at lw_m9 212 rfl) rfl
theorem q2240 : (Jvm.Cond.instanceMethod ({ cls := "CircuitDeskModel", name := "errorPosition", desc := "()I" } : Jvm.MethodName)) ∈ lw_all := lw_g (lw_at lw_m9 213 rfl) rfl
theorem q2241 : (Jvm.Cond.selects "CircuitDeskModel" ({ cls := "CircuitDeskModel", name := "errorPosition", desc := "()I" } : Jvm.MethodName) ({ cls := "CircuitDeskModel", name := "errorPosition", desc := "()I" } : Jvm.MethodName)) ∈ lw_all := lw_g (lw_at lw_m9 214 rfl) rfl
theorem q2242 : (Jvm.Cond.code ({ cls := "CircuitDeskModel", name := "errorPosition", desc := "()I" } : Jvm.MethodName) prog_17_method_37_code (1 : Nat) (Option.some Jvm.ClassFile.FieldType.int)) ∈ lw_all := lw_g (lw_at lw_m9 215 rfl) rfl
theorem q2243 : (Jvm.Cond.methodLink "CircuitDeskLaw" (141 : Nat) ({ cls := "CircuitDeskModel", name := "addNode", desc := "(I)I" } : Jvm.MethodName)) ∈ lw_all := lw_g (lw_at lw_m9 216 rfl) rfl
theorem q2244 : (Jvm.Cond.instanceMethod ({ cls := "CircuitDeskModel", name := "addNode", desc := "(I)I" } : Jvm.MethodName)) ∈ lw_all := lw_g (lw_at lw_m9 217 rfl) rfl
theorem q2245 : (Jvm.Cond.selects "CircuitDeskModel" ({ cls := "CircuitDeskModel", name := "addNode", desc := "(I)I" } : Jvm.MethodName) ({ cls := "CircuitDeskModel", name := "addNode", desc := "(I)I" } : Jvm.MethodName)) ∈ lw_all := lw_g (lw_at lw_m9 218 rfl) rfl
theorem q2246 : (Jvm.Cond.code ({ cls := "CircuitDeskModel", name := "addNode", desc := "(I)I" } : Jvm.MethodName) prog_17_method_39_code (2 : Nat) (Option.some Jvm.ClassFile.FieldType.int)) ∈ lw_all := lw_g (lw_at lw_m9 219 rfl) rfl
theorem q2247 : (Jvm.Cond.methodLink "CircuitDeskLaw" (145 : Nat) ({ cls := "CircuitDeskModel", name := "addLink", desc := "(IIII)I" } : Jvm.MethodName)) ∈ lw_all := lw_g (lw_at lw_m9 220 rfl) rfl
theorem q2248 : (Jvm.Cond.instanceMethod ({ cls := "CircuitDeskModel", name := "addLink", desc := "(IIII)I" } : Jvm.MethodName)) ∈ lw_all := lw_g (lw_at lw_m9 221 rfl) rfl
theorem q2249 : (Jvm.Cond.selects "CircuitDeskModel" ({ cls := "CircuitDeskModel", name := "addLink", desc := "(IIII)I" } : Jvm.MethodName) ({ cls := "CircuitDeskModel", name := "addLink", desc := "(IIII)I" } : Jvm.MethodName)) ∈ lw_all := lw_g (lw_at lw_m9 222 rfl) rfl
theorem q2250 : (Jvm.Cond.code ({ cls := "CircuitDeskModel", name := "addLink", desc := "(IIII)I" } : Jvm.MethodName) prog_17_method_42_code (5 : Nat) (Option.some Jvm.ClassFile.FieldType.int)) ∈ lw_all := lw_g (lw_at lw_m9 223 rfl) rfl
theorem q2251 : (Jvm.Cond.methodLink "CircuitDeskModel" (204 : Nat) ({ cls := "CircuitDeskModel", name := "isNode", desc := "(I)Z" } : Jvm.MethodName)) ∈ lw_all := lw_g (lw_at lw_m9 224 rfl) rfl
theorem q2252 : (Jvm.Cond.privateMethod ({ cls := "CircuitDeskModel", name := "isNode", desc := "(I)Z" } : Jvm.MethodName)) ∈ lw_tbl := lw_at lw_m9 225 rfl
theorem q2253 : (Jvm.Cond.instanceMethod ({ cls := "CircuitDeskModel", name := "isNode", desc := "(I)Z" } : Jvm.MethodName)) ∈ lw_all := lw_g (lw_at lw_m9 226 rfl) rfl
theorem q2254 : (Jvm.Cond.code ({ cls := "CircuitDeskModel", name := "isNode", desc := "(I)Z" } : Jvm.MethodName) prog_17_method_7_code (2 : Nat) (Option.some Jvm.ClassFile.FieldType.boolean)) ∈ lw_all := lw_g (lw_at lw_m9 227 rfl) rfl
theorem q2255 : (Jvm.Cond.methodLink "CircuitDeskLaw" (149 : Nat) ({ cls := "CircuitDeskModel", name := "setUp", desc := "(IZ)Z" } : Jvm.MethodName)) ∈ lw_all := lw_g (lw_at lw_m9 228 rfl) rfl
theorem q2256 : (Jvm.Cond.instanceMethod ({ cls := "CircuitDeskModel", name := "setUp", desc := "(IZ)Z" } : Jvm.MethodName)) ∈ lw_all := lw_g (lw_at lw_m9 229 rfl) rfl
theorem q2257 : (Jvm.Cond.selects "CircuitDeskModel" ({ cls := "CircuitDeskModel", name := "setUp", desc := "(IZ)Z" } : Jvm.MethodName) ({ cls := "CircuitDeskModel", name := "setUp", desc := "(IZ)Z" } : Jvm.MethodName)) ∈ lw_all := lw_g (lw_at lw_m9 230 rfl) rfl
theorem q2258 : (Jvm.Cond.code ({ cls := "CircuitDeskModel", name := "setUp", desc := "(IZ)Z" } : Jvm.MethodName) prog_17_method_46_code (5 : Nat) (Option.some Jvm.ClassFile.FieldType.boolean)) ∈ lw_all := lw_g (lw_at lw_m9 231 rfl) rfl
theorem q2259 : (Jvm.Cond.methodLink "CircuitDeskModel" (214 : Nat) ({ cls := "CircuitDeskModel", name := "isLink", desc := "(I)Z" } : Jvm.MethodName)) ∈ lw_all := lw_g (lw_at lw_m9 232 rfl) rfl
theorem q2260 : (Jvm.Cond.privateMethod ({ cls := "CircuitDeskModel", name := "isLink", desc := "(I)Z" } : Jvm.MethodName)) ∈ lw_tbl := lw_at lw_m9 233 rfl
theorem q2261 : (Jvm.Cond.instanceMethod ({ cls := "CircuitDeskModel", name := "isLink", desc := "(I)Z" } : Jvm.MethodName)) ∈ lw_all := lw_g (lw_at lw_m9 234 rfl) rfl
theorem q2262 : (Jvm.Cond.code ({ cls := "CircuitDeskModel", name := "isLink", desc := "(I)Z" } : Jvm.MethodName) prog_17_method_8_code (2 : Nat) (Option.some Jvm.ClassFile.FieldType.boolean)) ∈ lw_all := lw_g (lw_at lw_m9 235 rfl) rfl
theorem q2263 : (Jvm.Cond.methodLink "CircuitDeskModel" (217 : Nat) ({ cls := "CircuitDeskModel", name := "ofPacket", desc := "(II)I" } : Jvm.MethodName)) ∈ lw_all := lw_g (lw_at lw_m9 236 rfl) rfl
theorem q2264 : (Jvm.Cond.privateMethod ({ cls := "CircuitDeskModel", name := "ofPacket", desc := "(II)I" } : Jvm.MethodName)) ∈ lw_tbl := lw_at lw_m9 237 rfl
theorem q2265 : (Jvm.Cond.instanceMethod ({ cls := "CircuitDeskModel", name := "ofPacket", desc := "(II)I" } : Jvm.MethodName)) ∈ lw_all := lw_g (lw_at lw_m9 238 rfl) rfl
theorem q2266 : (Jvm.Cond.code ({ cls := "CircuitDeskModel", name := "ofPacket", desc := "(II)I" } : Jvm.MethodName) prog_17_method_15_code (3 : Nat) (Option.some Jvm.ClassFile.FieldType.int)) ∈ lw_all := lw_g (lw_at lw_m9 239 rfl) rfl
theorem q2267 : (Jvm.Cond.methodLink "CircuitDeskModel" (220 : Nat) ({ cls := "CircuitDeskModel", name := "losePacket", desc := "(I)V" } : Jvm.MethodName)) ∈ lw_all := lw_g (lw_at lw_m10 0 rfl) rfl
theorem q2268 : (Jvm.Cond.privateMethod ({ cls := "CircuitDeskModel", name := "losePacket", desc := "(I)V" } : Jvm.MethodName)) ∈ lw_tbl := lw_at lw_m10 1 rfl
theorem q2269 : (Jvm.Cond.instanceMethod ({ cls := "CircuitDeskModel", name := "losePacket", desc := "(I)V" } : Jvm.MethodName)) ∈ lw_all := lw_g (lw_at lw_m10 2 rfl) rfl
theorem q2270 : (Jvm.Cond.code ({ cls := "CircuitDeskModel", name := "losePacket", desc := "(I)V" } : Jvm.MethodName) prog_17_method_92_code (2 : Nat) (Option.none : Option Jvm.ClassFile.FieldType)) ∈ lw_all := lw_g (lw_at lw_m10 3 rfl) rfl
theorem q2271 : (Jvm.Cond.methodLink "CircuitDeskModel" (338 : Nat) ({ cls := "CircuitDeskModel", name := "grow", desc := "(III)V" } : Jvm.MethodName)) ∈ lw_all := lw_g (lw_at lw_m10 4 rfl) rfl
theorem q2272 : (Jvm.Cond.privateMethod ({ cls := "CircuitDeskModel", name := "grow", desc := "(III)V" } : Jvm.MethodName)) ∈ lw_tbl := lw_at lw_m10 5 rfl
theorem q2273 : (Jvm.Cond.instanceMethod ({ cls := "CircuitDeskModel", name := "grow", desc := "(III)V" } : Jvm.MethodName)) ∈ lw_all := lw_g (lw_at lw_m10 6 rfl) rfl
theorem q2274 : (Jvm.Cond.code ({ cls := "CircuitDeskModel", name := "grow", desc := "(III)V" } : Jvm.MethodName) prog_17_method_13_code (4 : Nat) (Option.none : Option Jvm.ClassFile.FieldType)) ∈ lw_all := lw_g (lw_at lw_m10 7 rfl) rfl
theorem q2275 : (Jvm.Cond.methodLink "CircuitDeskModel" (341 : Nat) ({ cls := "CircuitDeskModel", name := "removePacket", desc := "(I)V" } : Jvm.MethodName)) ∈ lw_all := lw_g (lw_at lw_m10 8 rfl) rfl
theorem q2276 : (Jvm.Cond.privateMethod ({ cls := "CircuitDeskModel", name := "removePacket", desc := "(I)V" } : Jvm.MethodName)) ∈ lw_tbl := lw_at lw_m10 9 rfl
theorem q2277 : (Jvm.Cond.instanceMethod ({ cls := "CircuitDeskModel", name := "removePacket", desc := "(I)V" } : Jvm.MethodName)) ∈ lw_all := lw_g (lw_at lw_m10 10 rfl) rfl
theorem q2278 : (Jvm.Cond.code ({ cls := "CircuitDeskModel", name := "removePacket", desc := "(I)V" } : Jvm.MethodName) prog_17_method_91_code (3 : Nat) (Option.none : Option Jvm.ClassFile.FieldType)) ∈ lw_all := lw_g (lw_at lw_m10 11 rfl) rfl
theorem q2279 : (Jvm.Cond.methodLink "CircuitDeskLaw" (153 : Nat) ({ cls := "CircuitDeskModel", name := "set", desc := "(II)I" } : Jvm.MethodName)) ∈ lw_all := lw_g (lw_at lw_m10 12 rfl) rfl
theorem q2280 : (Jvm.Cond.instanceMethod ({ cls := "CircuitDeskModel", name := "set", desc := "(II)I" } : Jvm.MethodName)) ∈ lw_all := lw_g (lw_at lw_m10 13 rfl) rfl
theorem q2281 : (Jvm.Cond.selects "CircuitDeskModel" ({ cls := "CircuitDeskModel", name := "set", desc := "(II)I" } : Jvm.MethodName) ({ cls := "CircuitDeskModel", name := "set", desc := "(II)I" } : Jvm.MethodName)) ∈ lw_all := lw_g (lw_at lw_m10 14 rfl) rfl
theorem q2282 : (Jvm.Cond.code ({ cls := "CircuitDeskModel", name := "set", desc := "(II)I" } : Jvm.MethodName) prog_17_method_47_code (4 : Nat) (Option.some Jvm.ClassFile.FieldType.int)) ∈ lw_all := lw_g (lw_at lw_m10 15 rfl) rfl
theorem q2283 : (Jvm.Cond.methodLink "CircuitDeskLaw" (156 : Nat) ({ cls := "CircuitDeskModel", name := "count", desc := "(I)I" } : Jvm.MethodName)) ∈ lw_all := lw_g (lw_at lw_m10 16 rfl) rfl
theorem q2284 : (Jvm.Cond.instanceMethod ({ cls := "CircuitDeskModel", name := "count", desc := "(I)I" } : Jvm.MethodName)) ∈ lw_all := lw_g (lw_at lw_m10 17 rfl) rfl
theorem q2285 : (Jvm.Cond.selects "CircuitDeskModel" ({ cls := "CircuitDeskModel", name := "count", desc := "(I)I" } : Jvm.MethodName) ({ cls := "CircuitDeskModel", name := "count", desc := "(I)I" } : Jvm.MethodName)) ∈ lw_all := lw_g (lw_at lw_m10 18 rfl) rfl
theorem q2286 : (Jvm.Cond.code ({ cls := "CircuitDeskModel", name := "count", desc := "(I)I" } : Jvm.MethodName) prog_17_method_56_code (2 : Nat) (Option.some Jvm.ClassFile.FieldType.int)) ∈ lw_all := lw_g (lw_at lw_m10 19 rfl) rfl
theorem q2287 : (Jvm.Cond.methodLink "CircuitDeskModel" (250 : Nat) ({ cls := "CircuitDeskModel", name := "lent", desc := "()I" } : Jvm.MethodName)) ∈ lw_all := lw_g (lw_at lw_m10 20 rfl) rfl
theorem q2288 : (Jvm.Cond.privateMethod ({ cls := "CircuitDeskModel", name := "lent", desc := "()I" } : Jvm.MethodName)) ∈ lw_tbl := lw_at lw_m10 21 rfl
theorem q2289 : (Jvm.Cond.instanceMethod ({ cls := "CircuitDeskModel", name := "lent", desc := "()I" } : Jvm.MethodName)) ∈ lw_all := lw_g (lw_at lw_m10 22 rfl) rfl
theorem q2290 : (Jvm.Cond.code ({ cls := "CircuitDeskModel", name := "lent", desc := "()I" } : Jvm.MethodName) prog_17_method_57_code (3 : Nat) (Option.some Jvm.ClassFile.FieldType.int)) ∈ lw_all := lw_g (lw_at lw_m10 23 rfl) rfl
theorem q2291 : (Jvm.Cond.methodLink "CircuitDeskModel" (253 : Nat) ({ cls := "CircuitDeskModel", name := "movedCircuits", desc := "()I" } : Jvm.MethodName)) ∈ lw_all := lw_g (lw_at lw_m10 24 rfl) rfl
theorem q2292 : (Jvm.Cond.privateMethod ({ cls := "CircuitDeskModel", name := "movedCircuits", desc := "()I" } : Jvm.MethodName)) ∈ lw_tbl := lw_at lw_m10 25 rfl
theorem q2293 : (Jvm.Cond.instanceMethod ({ cls := "CircuitDeskModel", name := "movedCircuits", desc := "()I" } : Jvm.MethodName)) ∈ lw_all := lw_g (lw_at lw_m10 26 rfl) rfl
theorem q2294 : (Jvm.Cond.code ({ cls := "CircuitDeskModel", name := "movedCircuits", desc := "()I" } : Jvm.MethodName) prog_17_method_58_code (3 : Nat) (Option.some Jvm.ClassFile.FieldType.int)) ∈ lw_all := lw_g (lw_at lw_m10 27 rfl) rfl
theorem q2295 : (Jvm.Cond.methodLink "CircuitDeskLaw" (159 : Nat) ({ cls := "CircuitDeskModel", name := "node", desc := "(II)I" } : Jvm.MethodName)) ∈ lw_all := lw_g (lw_at lw_m10 28 rfl) rfl
theorem q2296 : (Jvm.Cond.instanceMethod ({ cls := "CircuitDeskModel", name := "node", desc := "(II)I" } : Jvm.MethodName)) ∈ lw_all := lw_g (lw_at lw_m10 29 rfl) rfl
theorem q2297 : (Jvm.Cond.selects "CircuitDeskModel" ({ cls := "CircuitDeskModel", name := "node", desc := "(II)I" } : Jvm.MethodName) ({ cls := "CircuitDeskModel", name := "node", desc := "(II)I" } : Jvm.MethodName)) ∈ lw_all := lw_g (lw_at lw_m10 30 rfl) rfl
theorem q2298 : (Jvm.Cond.code ({ cls := "CircuitDeskModel", name := "node", desc := "(II)I" } : Jvm.MethodName) prog_17_method_60_code (3 : Nat) (Option.some Jvm.ClassFile.FieldType.int)) ∈ lw_all := lw_g (lw_at lw_m10 31 rfl) rfl
theorem q2299 : (Jvm.Cond.methodLink "CircuitDeskModel" (256 : Nat) ({ cls := "CircuitDeskModel", name := "linksAt", desc := "(I)I" } : Jvm.MethodName)) ∈ lw_all := lw_g (lw_at lw_m10 32 rfl) rfl
theorem q2300 : (Jvm.Cond.privateMethod ({ cls := "CircuitDeskModel", name := "linksAt", desc := "(I)I" } : Jvm.MethodName)) ∈ lw_tbl := lw_at lw_m10 33 rfl
theorem q2301 : (Jvm.Cond.instanceMethod ({ cls := "CircuitDeskModel", name := "linksAt", desc := "(I)I" } : Jvm.MethodName)) ∈ lw_all := lw_g (lw_at lw_m10 34 rfl) rfl
theorem q2302 : (Jvm.Cond.code ({ cls := "CircuitDeskModel", name := "linksAt", desc := "(I)I" } : Jvm.MethodName) prog_17_method_59_code (4 : Nat) (Option.some Jvm.ClassFile.FieldType.int)) ∈ lw_all := lw_g (lw_at lw_m10 35 rfl) rfl
theorem q2303 : (Jvm.Cond.methodLink "CircuitDeskLaw" (163 : Nat) ({ cls := "CircuitDeskModel", name := "label", desc := "(III)I" } : Jvm.MethodName)) ∈ lw_all := lw_g (lw_at lw_m10 36 rfl) rfl
theorem q2304 : (Jvm.Cond.instanceMethod ({ cls := "CircuitDeskModel", name := "label", desc := "(III)I" } : Jvm.MethodName)) ∈ lw_all := lw_g (lw_at lw_m10 37 rfl) rfl
theorem q2305 : (Jvm.Cond.selects "CircuitDeskModel" ({ cls := "CircuitDeskModel", name := "label", desc := "(III)I" } : Jvm.MethodName) ({ cls := "CircuitDeskModel", name := "label", desc := "(III)I" } : Jvm.MethodName)) ∈ lw_all := lw_g (lw_at lw_m10 38 rfl) rfl
theorem q2306 : (Jvm.Cond.code ({ cls := "CircuitDeskModel", name := "label", desc := "(III)I" } : Jvm.MethodName) prog_17_method_61_code (5 : Nat) (Option.some Jvm.ClassFile.FieldType.int)) ∈ lw_all := lw_g (lw_at lw_m10 39 rfl) rfl
theorem q2307 : (Jvm.Cond.methodLink "CircuitDeskLaw" (166 : Nat) ({ cls := "CircuitDeskModel", name := "link", desc := "(II)I" } : Jvm.MethodName)) ∈ lw_all := lw_g (lw_at lw_m10 40 rfl) rfl
theorem q2308 : (Jvm.Cond.instanceMethod ({ cls := "CircuitDeskModel", name := "link", desc := "(II)I" } : Jvm.MethodName)) ∈ lw_all := lw_g (lw_at lw_m10 41 rfl) rfl
theorem q2309 : (Jvm.Cond.selects "CircuitDeskModel" ({ cls := "CircuitDeskModel", name := "link", desc := "(II)I" } : Jvm.MethodName) ({ cls := "CircuitDeskModel", name := "link", desc := "(II)I" } : Jvm.MethodName)) ∈ lw_all := lw_g (lw_at lw_m10 42 rfl) rfl
theorem q2310 : (Jvm.Cond.code ({ cls := "CircuitDeskModel", name := "link", desc := "(II)I" } : Jvm.MethodName) prog_17_method_63_code (3 : Nat) (Option.some Jvm.ClassFile.FieldType.int)) ∈ lw_all := lw_g (lw_at lw_m10 43 rfl) rfl
theorem q2311 : (Jvm.Cond.methodLink "CircuitDeskModel" (259 : Nat) ({ cls := "CircuitDeskModel", name := "packetsOn", desc := "(I)I" } : Jvm.MethodName)) ∈ lw_all := lw_g (lw_at lw_m10 44 rfl) rfl
theorem q2312 : (Jvm.Cond.privateMethod ({ cls := "CircuitDeskModel", name := "packetsOn", desc := "(I)I" } : Jvm.MethodName)) ∈ lw_tbl := lw_at lw_m10 45 rfl
theorem q2313 : (Jvm.Cond.instanceMethod ({ cls := "CircuitDeskModel", name := "packetsOn", desc := "(I)I" } : Jvm.MethodName)) ∈ lw_all := lw_g (lw_at lw_m10 46 rfl) rfl
theorem q2314 : (Jvm.Cond.code ({ cls := "CircuitDeskModel", name := "packetsOn", desc := "(I)I" } : Jvm.MethodName) prog_17_method_62_code (4 : Nat) (Option.some Jvm.ClassFile.FieldType.int)) ∈ lw_all := lw_g (lw_at lw_m10 47 rfl) rfl
theorem q2315 : (Jvm.Cond.methodLink "CircuitDeskLaw" (169 : Nat) ({ cls := "CircuitDeskModel", name := "draft", desc := "(I)I" } : Jvm.MethodName)) ∈ lw_all := lw_g (lw_at lw_m10 48 rfl) rfl
theorem q2316 : (Jvm.Cond.instanceMethod ({ cls := "CircuitDeskModel", name := "draft", desc := "(I)I" } : Jvm.MethodName)) ∈ lw_all := lw_g (lw_at lw_m10 49 rfl) rfl
theorem q2317 : (Jvm.Cond.selects "CircuitDeskModel" ({ cls := "CircuitDeskModel", name := "draft", desc := "(I)I" } : Jvm.MethodName) ({ cls := "CircuitDeskModel", name := "draft", desc := "(I)I" } : Jvm.MethodName)) ∈ lw_all := lw_g (lw_at lw_m10 50 rfl) rfl
theorem q2318 : (Jvm.Cond.code ({ cls := "CircuitDeskModel", name := "draft", desc := "(I)I" } : Jvm.MethodName) prog_17_method_65_code (2 : Nat) (Option.some Jvm.ClassFile.FieldType.int)) ∈ lw_all := lw_g (lw_at lw_m10 51 rfl) rfl
theorem q2319 : (Jvm.Cond.methodLink "CircuitDeskModel" (262 : Nat) ({ cls := "CircuitDeskModel", name := "isInDraft", desc := "(I)Z" } : Jvm.MethodName)) ∈ lw_all := lw_g (lw_at lw_m10 52 rfl) rfl
theorem q2320 : (Jvm.Cond.privateMethod ({ cls := "CircuitDeskModel", name := "isInDraft", desc := "(I)Z" } : Jvm.MethodName)) ∈ lw_tbl := lw_at lw_m10 53 rfl
theorem q2321 : (Jvm.Cond.instanceMethod ({ cls := "CircuitDeskModel", name := "isInDraft", desc := "(I)Z" } : Jvm.MethodName)) ∈ lw_all := lw_g (lw_at lw_m10 54 rfl) rfl
theorem q2322 : (Jvm.Cond.code ({ cls := "CircuitDeskModel", name := "isInDraft", desc := "(I)Z" } : Jvm.MethodName) prog_17_method_64_code (3 : Nat) (Option.some Jvm.ClassFile.FieldType.boolean)) ∈ lw_all := lw_g (lw_at lw_m10 55 rfl) rfl
theorem q2323 : (Jvm.Cond.methodLink "CircuitDeskLaw" (173 : Nat) ({ cls := "CircuitDeskModel", name := "clearDraft", desc := "()I" } : Jvm.MethodName)) ∈ lw_all := lw_g (lw_at lw_m10 56 rfl) rfl
theorem q2324 : (Jvm.Cond.instanceMethod ({ cls := "CircuitDeskModel", name := "clearDraft", desc := "()I" } : Jvm.MethodName)) ∈ lw_all := lw_g (lw_at lw_m10 57 rfl) rfl
theorem q2325 : (Jvm.Cond.selects "CircuitDeskModel" ({ cls := "CircuitDeskModel", name := "clearDraft", desc := "()I" } : Jvm.MethodName) ({ cls := "CircuitDeskModel", name := "clearDraft", desc := "()I" } : Jvm.MethodName)) ∈ lw_all := lw_g (lw_at lw_m10 58 rfl) rfl
theorem q2326 : (Jvm.Cond.code ({ cls := "CircuitDeskModel", name := "clearDraft", desc := "()I" } : Jvm.MethodName) prog_17_method_66_code (2 : Nat) (Option.some Jvm.ClassFile.FieldType.int)) ∈ lw_all := lw_g (lw_at lw_m10 59 rfl) rfl
theorem q2327 : (Jvm.Cond.methodLink "CircuitDeskLaw" (176 : Nat) ({ cls := "CircuitDeskModel", name := "draftBest", desc := "(III)I" } : Jvm.MethodName)) ∈ lw_all := lw_g (lw_at lw_m10 60 rfl) rfl
theorem q2328 : (Jvm.Cond.instanceMethod ({ cls := "CircuitDeskModel", name := "draftBest", desc := "(III)I" } : Jvm.MethodName)) ∈ lw_all := lw_g (lw_at lw_m10 61 rfl) rfl
theorem q2329 : (Jvm.Cond.selects "CircuitDeskModel" ({ cls := "CircuitDeskModel", name := "draftBest", desc := "(III)I" } : Jvm.MethodName) ({ cls := "CircuitDeskModel", name := "draftBest", desc := "(III)I" } : Jvm.MethodName)) ∈ lw_all := lw_g (lw_at lw_m10 62 rfl) rfl
theorem q2330 : (Jvm.Cond.code ({ cls := "CircuitDeskModel", name := "draftBest", desc := "(III)I" } : Jvm.MethodName) prog_17_method_72_code (4 : Nat) (Option.some Jvm.ClassFile.FieldType.int)) ∈ lw_all := lw_g (lw_at lw_m10 63 rfl) rfl
theorem q2331 : (Jvm.Cond.methodLink "CircuitDeskModel" (289 : Nat) ({ cls := "CircuitDeskModel", name := "layBest", desc := "(IIIII)I" } : Jvm.MethodName)) ∈ lw_all := lw_g (lw_at lw_m10 64 rfl) rfl
theorem q2332 : (Jvm.Cond.privateMethod ({ cls := "CircuitDeskModel", name := "layBest", desc := "(IIIII)I" } : Jvm.MethodName)) ∈ lw_tbl := lw_at lw_m10 65 rfl
theorem q2333 : (Jvm.Cond.instanceMethod ({ cls := "CircuitDeskModel", name := "layBest", desc := "(IIIII)I" } : Jvm.MethodName)) ∈ lw_all := lw_g (lw_at lw_m10 66 rfl) rfl
theorem q2334 : (Jvm.Cond.code ({ cls := "CircuitDeskModel", name := "layBest", desc := "(IIIII)I" } : Jvm.MethodName) prog_17_method_71_code (7 : Nat) (Option.some Jvm.ClassFile.FieldType.int)) ∈ lw_all := lw_g (lw_at lw_m10 67 rfl) rfl
theorem q2335 : (Jvm.Cond.methodLink "CircuitDeskModel" (280 : Nat) ({ cls := "CircuitDeskModel", name := "goOn", desc := "(II)Z" } : Jvm.MethodName)) ∈ lw_all := lw_g (lw_at lw_m10 68 rfl) rfl
theorem q2336 : (Jvm.Cond.privateMethod ({ cls := "CircuitDeskModel", name := "goOn", desc := "(II)Z" } : Jvm.MethodName)) ∈ lw_tbl := lw_at lw_m10 69 rfl
theorem q2337 : (Jvm.Cond.instanceMethod ({ cls := "CircuitDeskModel", name := "goOn", desc := "(II)Z" } : Jvm.MethodName)) ∈ lw_all := lw_g (lw_at lw_m10 70 rfl) rfl
theorem q2338 : (Jvm.Cond.code ({ cls := "CircuitDeskModel", name := "goOn", desc := "(II)Z" } : Jvm.MethodName) prog_17_method_70_code (6 : Nat) (Option.some Jvm.ClassFile.FieldType.boolean)) ∈ lw_all := lw_g (lw_at lw_m10 71 rfl) rfl
theorem q2339 : (Jvm.Cond.methodLink "CircuitDeskModel" (277 : Nat) ({ cls := "CircuitDeskModel", name := "isTried", desc := "(I)Z" } : Jvm.MethodName)) ∈ lw_all := lw_g (lw_at lw_m10 72 rfl) rfl
theorem q2340 : (Jvm.Cond.privateMethod ({ cls := "CircuitDeskModel", name := "isTried", desc := "(I)Z" } : Jvm.MethodName)) ∈ lw_tbl := lw_at lw_m10 73 rfl
theorem q2341 : (Jvm.Cond.instanceMethod ({ cls := "CircuitDeskModel", name := "isTried", desc := "(I)Z" } : Jvm.MethodName)) ∈ lw_all := lw_g (lw_at lw_m10 74 rfl) rfl
theorem q2342 : (Jvm.Cond.code ({ cls := "CircuitDeskModel", name := "isTried", desc := "(I)Z" } : Jvm.MethodName) prog_17_method_67_code (3 : Nat) (Option.some Jvm.ClassFile.FieldType.boolean)) ∈ lw_all := lw_g (lw_at lw_m10 75 rfl) rfl
theorem q2343 : (Jvm.Cond.methodLink "CircuitDeskModel" (283 : Nat) ({ cls := "CircuitDeskModel", name := "compareTried", desc := "()V" } : Jvm.MethodName)) ∈ lw_all := lw_g (lw_at lw_m10 76 rfl) rfl
theorem q2344 : (Jvm.Cond.privateMethod ({ cls := "CircuitDeskModel", name := "compareTried", desc := "()V" } : Jvm.MethodName)) ∈ lw_tbl := lw_at lw_m10 77 rfl
theorem q2345 : (Jvm.Cond.instanceMethod ({ cls := "CircuitDeskModel", name := "compareTried", desc := "()V" } : Jvm.MethodName)) ∈ lw_all := lw_g (lw_at lw_m10 78 rfl) rfl
theorem q2346 : (Jvm.Cond.code ({ cls := "CircuitDeskModel", name := "compareTried", desc := "()V" } : Jvm.MethodName) prog_17_method_69_code (3 : Nat) (Option.none : Option Jvm.ClassFile.FieldType)) ∈ lw_all := lw_g (lw_at lw_m10 79 rfl) rfl
theorem q2347 : (Jvm.Cond.methodLink "CircuitDeskModel" (286 : Nat) ({ cls := "CircuitDeskModel", name := "dropTried", desc := "()V" } : Jvm.MethodName)) ∈ lw_all := lw_g (lw_at lw_m10 80 rfl) rfl
theorem q2348 : (Jvm.Cond.privateMethod ({ cls := "CircuitDeskModel", name := "dropTried", desc := "()V" } : Jvm.MethodName)) ∈ lw_tbl := lw_at lw_m10 81 rfl
theorem q2349 : (Jvm.Cond.instanceMethod ({ cls := "CircuitDeskModel", name := "dropTried", desc := "()V" } : Jvm.MethodName)) ∈ lw_all := lw_g (lw_at lw_m10 82 rfl) rfl
theorem q2350 : (Jvm.Cond.code ({ cls := "CircuitDeskModel", name := "dropTried", desc := "()V" } : Jvm.MethodName) prog_17_method_68_code (1 : Nat) (Option.none : Option Jvm.ClassFile.FieldType)) ∈ lw_all := lw_g (lw_at lw_m10 83 rfl) rfl
theorem q2351 : (Jvm.Cond.methodLink "CircuitDeskModel" (293 : Nat) ({ cls := "CircuitDeskModel", name := "takeBest", desc := "()V" } : Jvm.MethodName)) ∈ lw_all := lw_g (lw_at lw_m10 84 rfl) rfl
theorem q2352 : (Jvm.Cond.privateMethod ({ cls := "CircuitDeskModel", name := "takeBest", desc := "()V" } : Jvm.MethodName)) ∈ lw_tbl := lw_at lw_m10 85 rfl
theorem q2353 : (Jvm.Cond.instanceMethod ({ cls := "CircuitDeskModel", name := "takeBest", desc := "()V" } : Jvm.MethodName)) ∈ lw_all := lw_g (lw_at lw_m10 86 rfl) rfl
theorem q2354 : (Jvm.Cond.code ({ cls := "CircuitDeskModel", name := "takeBest", desc := "()V" } : Jvm.MethodName) prog_17_method_73_code (2 : Nat) (Option.none : Option Jvm.ClassFile.FieldType)) ∈ lw_all := lw_g (lw_at lw_m10 87 rfl) rfl
theorem q2355 : (Jvm.Cond.methodLink "CircuitDeskLaw" (179 : Nat) ({ cls := "CircuitDeskModel", name := "draftNode", desc := "(I)I" } : Jvm.MethodName)) ∈ lw_all := lw_g (lw_at lw_m10 88 rfl) rfl
theorem q2356 : (Jvm.Cond.instanceMethod ({ cls := "CircuitDeskModel", name := "draftNode", desc := "(I)I" } : Jvm.MethodName)) ∈ lw_all := lw_g (lw_at lw_m10 89 rfl) rfl
theorem q2357 : (Jvm.Cond.selects "CircuitDeskModel" ({ cls := "CircuitDeskModel", name := "draftNode", desc := "(I)I" } : Jvm.MethodName) ({ cls := "CircuitDeskModel", name := "draftNode", desc := "(I)I" } : Jvm.MethodName)) ∈ lw_all := lw_g (lw_at lw_m10 90 rfl) rfl
theorem q2358 : (Jvm.Cond.code ({ cls := "CircuitDeskModel", name := "draftNode", desc := "(I)I" } : Jvm.MethodName) prog_17_method_74_code (2 : Nat) (Option.some Jvm.ClassFile.FieldType.int)) ∈ lw_all := lw_g (lw_at lw_m10 91 rfl) rfl
theorem q2359 : (Jvm.Cond.methodLink "CircuitDeskLaw" (182 : Nat) ({ cls := "CircuitDeskModel", name := "open", desc := "(II)I" } : Jvm.MethodName)) ∈ lw_all := lw_g (lw_at lw_m10 92 rfl) rfl
theorem q2360 : (Jvm.Cond.instanceMethod ({ cls := "CircuitDeskModel", name := "open", desc := "(II)I" } : Jvm.MethodName)) ∈ lw_all := lw_g (lw_at lw_m10 93 rfl) rfl
theorem q2361 : (Jvm.Cond.selects "CircuitDeskModel" ({ cls := "CircuitDeskModel", name := "open", desc := "(II)I" } : Jvm.MethodName) ({ cls := "CircuitDeskModel", name := "open", desc := "(II)I" } : Jvm.MethodName)) ∈ lw_all := lw_g (lw_at lw_m10 94 rfl) rfl
theorem q2362 : (Jvm.Cond.code ({ cls := "CircuitDeskModel", name := "open", desc := "(II)I" } : Jvm.MethodName) prog_17_method_78_code (4 : Nat) (Option.some Jvm.ClassFile.FieldType.int)) ∈ lw_all := lw_g (lw_at lw_m10 95 rfl) rfl
theorem q2363 : (Jvm.Cond.methodLink "CircuitDeskModel" (300 : Nat) ({ cls := "CircuitDeskModel", name := "draftHasRoom", desc := "(II)Z" } : Jvm.MethodName)) ∈ lw_all := lw_g (lw_at lw_m10 96 rfl) rfl
theorem q2364 : (Jvm.Cond.privateMethod ({ cls := "CircuitDeskModel", name := "draftHasRoom", desc := "(II)Z" } : Jvm.MethodName)) ∈ lw_tbl := lw_at lw_m10 97 rfl
theorem q2365 : (Jvm.Cond.instanceMethod ({ cls := "CircuitDeskModel", name := "draftHasRoom", desc := "(II)Z" } : Jvm.MethodName)) ∈ lw_all := lw_g (lw_at lw_m10 98 rfl) rfl
theorem q2366 : (Jvm.Cond.code ({ cls := "CircuitDeskModel", name := "draftHasRoom", desc := "(II)Z" } : Jvm.MethodName) prog_17_method_76_code (4 : Nat) (Option.some Jvm.ClassFile.FieldType.boolean)) ∈ lw_all := lw_g (lw_at lw_m10 99 rfl) rfl
theorem q2367 : (Jvm.Cond.methodLink "CircuitDeskModel" (303 : Nat) ({ cls := "CircuitDeskModel", name := "layDraft", desc := "(III)Z" } : Jvm.MethodName)) ∈ lw_all := lw_g (lw_at lw_m10 100 rfl) rfl
theorem q2368 : (Jvm.Cond.privateMethod ({ cls := "CircuitDeskModel", name := "layDraft", desc := "(III)Z" } : Jvm.MethodName)) ∈ lw_tbl := lw_at lw_m10 101 rfl
theorem q2369 : (Jvm.Cond.instanceMethod ({ cls := "CircuitDeskModel", name := "layDraft", desc := "(III)Z" } : Jvm.MethodName)) ∈ lw_all := lw_g (lw_at lw_m10 102 rfl) rfl
theorem q2370 : (Jvm.Cond.code ({ cls := "CircuitDeskModel", name := "layDraft", desc := "(III)Z" } : Jvm.MethodName) prog_17_method_77_code (5 : Nat) (Option.some Jvm.ClassFile.FieldType.boolean)) ∈ lw_all := lw_g (lw_at lw_m10 103 rfl) rfl
theorem q2371 : (Jvm.Cond.methodLink "CircuitDeskLaw" (185 : Nat) ({ cls := "CircuitDeskModel", name := "close", desc := "(I)I" } : Jvm.MethodName)) ∈ lw_all := lw_g (lw_at lw_m10 104 rfl) rfl
theorem q2372 : (Jvm.Cond.instanceMethod ({ cls := "CircuitDeskModel", name := "close", desc := "(I)I" } : Jvm.MethodName)) ∈ lw_all := lw_g (lw_at lw_m10 105 rfl) rfl
theorem q2373 : (Jvm.Cond.selects "CircuitDeskModel" ({ cls := "CircuitDeskModel", name := "close", desc := "(I)I" } : Jvm.MethodName) ({ cls := "CircuitDeskModel", name := "close", desc := "(I)I" } : Jvm.MethodName)) ∈ lw_all := lw_g (lw_at lw_m10 106 rfl) rfl
theorem q2374 : (Jvm.Cond.code ({ cls := "CircuitDeskModel", name := "close", desc := "(I)I" } : Jvm.MethodName) prog_17_method_80_code (3 : Nat) (Option.some Jvm.ClassFile.FieldType.int)) ∈ lw_all := lw_g (lw_at lw_m10 107 rfl) rfl
theorem q2375 : (Jvm.Cond.methodLink "CircuitDeskModel" (306 : Nat) ({ cls := "CircuitDeskModel", name := "isCircuit", desc := "(I)Z" } : Jvm.MethodName)) ∈ lw_all := lw_g (lw_at lw_m10 108 rfl) rfl
theorem q2376 : (Jvm.Cond.privateMethod ({ cls := "CircuitDeskModel", name := "isCircuit", desc := "(I)Z" } : Jvm.MethodName)) ∈ lw_tbl := lw_at lw_m10 109 rfl
theorem q2377 : (Jvm.Cond.instanceMethod ({ cls := "CircuitDeskModel", name := "isCircuit", desc := "(I)Z" } : Jvm.MethodName)) ∈ lw_all := lw_g (lw_at lw_m10 110 rfl) rfl
theorem q2378 : (Jvm.Cond.code ({ cls := "CircuitDeskModel", name := "isCircuit", desc := "(I)Z" } : Jvm.MethodName) prog_17_method_9_code (2 : Nat) (Option.some Jvm.ClassFile.FieldType.boolean)) ∈ lw_all := lw_g (lw_at lw_m10 111 rfl) rfl
theorem q2379 : (Jvm.Cond.methodLink "CircuitDeskModel" (309 : Nat) ({ cls := "CircuitDeskModel", name := "packetsOf", desc := "(I)I" } : Jvm.MethodName)) ∈ lw_all := lw_g (lw_at lw_m10 112 rfl) rfl
theorem q2380 : (Jvm.Cond.privateMethod ({ cls := "CircuitDeskModel", name := "packetsOf", desc := "(I)I" } : Jvm.MethodName)) ∈ lw_tbl := lw_at lw_m10 113 rfl
theorem q2381 : (Jvm.Cond.instanceMethod ({ cls := "CircuitDeskModel", name := "packetsOf", desc := "(I)I" } : Jvm.MethodName)) ∈ lw_all := lw_g (lw_at lw_m10 114 rfl) rfl
theorem q2382 : (Jvm.Cond.code ({ cls := "CircuitDeskModel", name := "packetsOf", desc := "(I)I" } : Jvm.MethodName) prog_17_method_79_code (4 : Nat) (Option.some Jvm.ClassFile.FieldType.int)) ∈ lw_all := lw_g (lw_at lw_m10 115 rfl) rfl
theorem q2383 : (Jvm.Cond.methodLink "CircuitDeskLaw" (188 : Nat) ({ cls := "CircuitDeskModel", name := "move", desc := "(I)I" } : Jvm.MethodName)) ∈ lw_all := lw_g (lw_at lw_m10 116 rfl) rfl
theorem q2384 : (Jvm.Cond.instanceMethod ({ cls := "CircuitDeskModel", name := "move", desc := "(I)I" } : Jvm.MethodName)) ∈ lw_all := lw_g (lw_at lw_m10 117 rfl) rfl
theorem q2385 : (Jvm.Cond.selects "CircuitDeskModel" ({ cls := "CircuitDeskModel", name := "move", desc := "(I)I" } : Jvm.MethodName) ({ cls := "CircuitDeskModel", name := "move", desc := "(I)I" } : Jvm.MethodName)) ∈ lw_all := lw_g (lw_at lw_m10 118 rfl) rfl
theorem q2386 : (Jvm.Cond.code ({ cls := "CircuitDeskModel", name := "move", desc := "(I)I" } : Jvm.MethodName) prog_17_method_85_code (3 : Nat) (Option.some Jvm.ClassFile.FieldType.int)) ∈ lw_all := lw_g (lw_at lw_m10 119 rfl) rfl
theorem q2387 : (Jvm.Cond.methodLink "CircuitDeskModel" (315 : Nat) ({ cls := "CircuitDeskModel", name := "firstOf", desc := "(I)I" } : Jvm.MethodName)) ∈ lw_all := lw_g (lw_at lw_m10 120 rfl) rfl
theorem q2388 : (Jvm.Cond.privateMethod ({ cls := "CircuitDeskModel", name := "firstOf", desc := "(I)I" } : Jvm.MethodName)) ∈ lw_tbl := lw_at lw_m10 121 rfl
theorem q2389 : (Jvm.Cond.instanceMethod ({ cls := "CircuitDeskModel", name := "firstOf", desc := "(I)I" } : Jvm.MethodName)) ∈ lw_all := lw_g (lw_at lw_m10 122 rfl) rfl
theorem q2390 : (Jvm.Cond.code ({ cls := "CircuitDeskModel", name := "firstOf", desc := "(I)I" } : Jvm.MethodName) prog_17_method_81_code (2 : Nat) (Option.some Jvm.ClassFile.FieldType.int)) ∈ lw_all := lw_g (lw_at lw_m10 123 rfl) rfl
theorem q2391 : (Jvm.Cond.methodLink "CircuitDeskModel" (318 : Nat) ({ cls := "CircuitDeskModel", name := "lastOf", desc := "(I)I" } : Jvm.MethodName)) ∈ lw_all := lw_g (lw_at lw_m10 124 rfl) rfl
theorem q2392 : (Jvm.Cond.privateMethod ({ cls := "CircuitDeskModel", name := "lastOf", desc := "(I)I" } : Jvm.MethodName)) ∈ lw_tbl := lw_at lw_m10 125 rfl
theorem q2393 : (Jvm.Cond.instanceMethod ({ cls := "CircuitDeskModel", name := "lastOf", desc := "(I)I" } : Jvm.MethodName)) ∈ lw_all := lw_g (lw_at lw_m10 126 rfl) rfl
theorem q2394 : (Jvm.Cond.code ({ cls := "CircuitDeskModel", name := "lastOf", desc := "(I)I" } : Jvm.MethodName) prog_17_method_82_code (3 : Nat) (Option.some Jvm.ClassFile.FieldType.int)) ∈ lw_all := lw_g (lw_at lw_m10 127 rfl) rfl
theorem q2395 : (Jvm.Cond.methodLink "CircuitDeskModel" (321 : Nat) ({ cls := "CircuitDeskModel", name := "moveToDraft", desc := "(I)I" } : Jvm.MethodName)) ∈ lw_all := lw_g (lw_at lw_m10 128 rfl) rfl
theorem q2396 : (Jvm.Cond.privateMethod ({ cls := "CircuitDeskModel", name := "moveToDraft", desc := "(I)I" } : Jvm.MethodName)) ∈ lw_tbl := lw_at lw_m10 129 rfl
theorem q2397 : (Jvm.Cond.instanceMethod ({ cls := "CircuitDeskModel", name := "moveToDraft", desc := "(I)I" } : Jvm.MethodName)) ∈ lw_all := lw_g (lw_at lw_m10 130 rfl) rfl
theorem q2398 : (Jvm.Cond.code ({ cls := "CircuitDeskModel", name := "moveToDraft", desc := "(I)I" } : Jvm.MethodName) prog_17_method_84_code (2 : Nat) (Option.some Jvm.ClassFile.FieldType.int)) ∈ lw_all := lw_g (lw_at lw_m10 131 rfl) rfl
theorem q2399 : (Jvm.Cond.methodLink "CircuitDeskModel" (312 : Nat) ({ cls := "CircuitDeskModel", name := "isDraftWay", desc := "(I)Z" } : Jvm.MethodName)) ∈ lw_all := lw_g (lw_at lw_m10 132 rfl) rfl
theorem q2400 : (Jvm.Cond.privateMethod ({ cls := "CircuitDeskModel", name := "isDraftWay", desc := "(I)Z" } : Jvm.MethodName)) ∈ lw_tbl := lw_at lw_m10 133 rfl
theorem q2401 : (Jvm.Cond.instanceMethod ({ cls := "CircuitDeskModel", name := "isDraftWay", desc := "(I)Z" } : Jvm.MethodName)) ∈ lw_all := lw_g (lw_at lw_m10 134 rfl) rfl
theorem q2402 : (Jvm.Cond.code ({ cls := "CircuitDeskModel", name := "isDraftWay", desc := "(I)Z" } : Jvm.MethodName) prog_17_method_83_code (5 : Nat) (Option.some Jvm.ClassFile.FieldType.boolean)) ∈ lw_all := lw_g (lw_at lw_m10 135 rfl) rfl
theorem q2403 : (Jvm.Cond.methodLink "CircuitDeskLaw" (191 : Nat) ({ cls := "CircuitDeskModel", name := "moveBest", desc := "(II)I" } : Jvm.MethodName)) ∈ lw_all := lw_g (lw_at lw_m10 136 rfl) rfl
theorem q2404 : (Jvm.Cond.instanceMethod ({ cls := "CircuitDeskModel", name := "moveBest", desc := "(II)I" } : Jvm.MethodName)) ∈ lw_all := lw_g (lw_at lw_m10 137 rfl) rfl
theorem q2405 : (Jvm.Cond.selects "CircuitDeskModel" ({ cls := "CircuitDeskModel", name := "moveBest", desc := "(II)I" } : Jvm.MethodName) ({ cls := "CircuitDeskModel", name := "moveBest", desc := "(II)I" } : Jvm.MethodName)) ∈ lw_all := lw_g (lw_at lw_m10 138 rfl) rfl
theorem q2406 : (Jvm.Cond.code ({ cls := "CircuitDeskModel", name := "moveBest", desc := "(II)I" } : Jvm.MethodName) prog_17_method_87_code (3 : Nat) (Option.some Jvm.ClassFile.FieldType.int)) ∈ lw_all := lw_g (lw_at lw_m10 139 rfl) rfl
theorem q2407 : (Jvm.Cond.methodLink "CircuitDeskModel" (324 : Nat) ({ cls := "CircuitDeskModel", name := "moveToBest", desc := "(II)I" } : Jvm.MethodName)) ∈ lw_all := lw_g (lw_at lw_m10 140 rfl) rfl
theorem q2408 : (Jvm.Cond.privateMethod ({ cls := "CircuitDeskModel", name := "moveToBest", desc := "(II)I" } : Jvm.MethodName)) ∈ lw_tbl := lw_at lw_m10 141 rfl
theorem q2409 : (Jvm.Cond.instanceMethod ({ cls := "CircuitDeskModel", name := "moveToBest", desc := "(II)I" } : Jvm.MethodName)) ∈ lw_all := lw_g (lw_at lw_m10 142 rfl) rfl
theorem q2410 : (Jvm.Cond.code ({ cls := "CircuitDeskModel", name := "moveToBest", desc := "(II)I" } : Jvm.MethodName) prog_17_method_86_code (6 : Nat) (Option.some Jvm.ClassFile.FieldType.int)) ∈ lw_all := lw_g (lw_at lw_m10 143 rfl) rfl
theorem q2411 : (Jvm.Cond.methodLink "CircuitDeskLaw" (194 : Nat) ({ cls := "CircuitDeskModel", name := "abort", desc := "(I)I" } : Jvm.MethodName)) ∈ lw_all := lw_g (lw_at lw_m10 144 rfl) rfl
theorem q2412 : (Jvm.Cond.instanceMethod ({ cls := "CircuitDeskModel", name := "abort", desc := "(I)I" } : Jvm.MethodName)) ∈ lw_all := lw_g (lw_at lw_m10 145 rfl) rfl
theorem q2413 : (Jvm.Cond.selects "CircuitDeskModel" ({ cls := "CircuitDeskModel", name := "abort", desc := "(I)I" } : Jvm.MethodName) ({ cls := "CircuitDeskModel", name := "abort", desc := "(I)I" } : Jvm.MethodName)) ∈ lw_all := lw_g (lw_at lw_m10 146 rfl) rfl
theorem q2414 : (Jvm.Cond.code ({ cls := "CircuitDeskModel", name := "abort", desc := "(I)I" } : Jvm.MethodName) prog_17_method_88_code (2 : Nat) (Option.some Jvm.ClassFile.FieldType.int)) ∈ lw_all := lw_g (lw_at lw_m10 147 rfl) rfl
theorem q2415 : (Jvm.Cond.methodLink "CircuitDeskLaw" (197 : Nat) ({ cls := "CircuitDeskModel", name := "offer", desc := "(II)I" } : Jvm.MethodName)) ∈ lw_all := lw_g (lw_at lw_m10 148 rfl) rfl
theorem q2416 : (Jvm.Cond.instanceMethod ({ cls := "CircuitDeskModel", name := "offer", desc := "(II)I" } : Jvm.MethodName)) ∈ lw_all := lw_g (lw_at lw_m10 149 rfl) rfl
theorem q2417 : (Jvm.Cond.selects "CircuitDeskModel" ({ cls := "CircuitDeskModel", name := "offer", desc := "(II)I" } : Jvm.MethodName) ({ cls := "CircuitDeskModel", name := "offer", desc := "(II)I" } : Jvm.MethodName)) ∈ lw_all := lw_g (lw_at lw_m10 150 rfl) rfl
theorem q2418 : (Jvm.Cond.code ({ cls := "CircuitDeskModel", name := "offer", desc := "(II)I" } : Jvm.MethodName) prog_17_method_90_code (3 : Nat) (Option.some Jvm.ClassFile.FieldType.int)) ∈ lw_all := lw_g (lw_at lw_m10 151 rfl) rfl
theorem q2419 : (Jvm.Cond.methodLink "CircuitDeskModel" (335 : Nat) ({ cls := "CircuitDeskModel", name := "growBacklog", desc := "(II)V" } : Jvm.MethodName)) ∈ lw_all := lw_g (lw_at lw_m10 152 rfl) rfl
theorem q2420 : (Jvm.Cond.privateMethod ({ cls := "CircuitDeskModel", name := "growBacklog", desc := "(II)V" } : Jvm.MethodName)) ∈ lw_tbl := lw_at lw_m10 153 rfl
theorem q2421 : (Jvm.Cond.instanceMethod ({ cls := "CircuitDeskModel", name := "growBacklog", desc := "(II)V" } : Jvm.MethodName)) ∈ lw_all := lw_g (lw_at lw_m10 154 rfl) rfl
theorem q2422 : (Jvm.Cond.code ({ cls := "CircuitDeskModel", name := "growBacklog", desc := "(II)V" } : Jvm.MethodName) prog_17_method_89_code (4 : Nat) (Option.none : Option Jvm.ClassFile.FieldType)) ∈ lw_all := lw_g (lw_at lw_m10 155 rfl) rfl
theorem q2423 : (Jvm.Cond.methodLink "CircuitDeskModel" (327 : Nat) ({ cls := "java/lang/Math", name := "max", desc := "(II)I" } : Jvm.MethodName)) ∈ lw_all := lw_g (lw_at lw_m10 156 rfl) rfl
theorem q2424 : (Jvm.Cond.methodLink "CircuitDeskModel" (332 : Nat) ({ cls := "java/lang/Math", name := "min", desc := "(II)I" } : Jvm.MethodName)) ∈ lw_all := lw_g (lw_at lw_m10 157 rfl) rfl
theorem q2425 : (Jvm.Cond.methodLink "CircuitDeskLaw" (200 : Nat) ({ cls := "CircuitDeskModel", name := "run", desc := "(I)I" } : Jvm.MethodName)) ∈ lw_all := lw_g (lw_at lw_m10 158 rfl) rfl
theorem q2426 : (Jvm.Cond.instanceMethod ({ cls := "CircuitDeskModel", name := "run", desc := "(I)I" } : Jvm.MethodName)) ∈ lw_all := lw_g (lw_at lw_m10 159 rfl) rfl
theorem q2427 : (Jvm.Cond.selects "CircuitDeskModel" ({ cls := "CircuitDeskModel", name := "run", desc := "(I)I" } : Jvm.MethodName) ({ cls := "CircuitDeskModel", name := "run", desc := "(I)I" } : Jvm.MethodName)) ∈ lw_all := lw_g (lw_at lw_m10 160 rfl) rfl
theorem q2428 : (Jvm.Cond.code ({ cls := "CircuitDeskModel", name := "run", desc := "(I)I" } : Jvm.MethodName) prog_17_method_107_code (3 : Nat) (Option.some Jvm.ClassFile.FieldType.int)) ∈ lw_all := lw_g (lw_at lw_m10 161 rfl) rfl
theorem q2429 : (Jvm.Cond.methodLink "CircuitDeskModel" (386 : Nat) ({ cls := "CircuitDeskModel", name := "passTicks", desc := "(I)V" } : Jvm.MethodName)) ∈ lw_all := lw_g (lw_at lw_m10 162 rfl) rfl
theorem q2430 : (Jvm.Cond.privateMethod ({ cls := "CircuitDeskModel", name := "passTicks", desc := "(I)V" } : Jvm.MethodName)) ∈ lw_tbl := lw_at lw_m10 163 rfl
theorem q2431 : (Jvm.Cond.instanceMethod ({ cls := "CircuitDeskModel", name := "passTicks", desc := "(I)V" } : Jvm.MethodName)) ∈ lw_all := lw_g (lw_at lw_m10 164 rfl) rfl
theorem q2432 : (Jvm.Cond.code ({ cls := "CircuitDeskModel", name := "passTicks", desc := "(I)V" } : Jvm.MethodName) prog_17_method_106_code (3 : Nat) (Option.none : Option Jvm.ClassFile.FieldType)) ∈ lw_all := lw_g (lw_at lw_m10 165 rfl) rfl
theorem q2433 : (Jvm.Cond.methodLink "CircuitDeskModel" (383 : Nat) ({ cls := "CircuitDeskModel", name := "passTick", desc := "()V" } : Jvm.MethodName)) ∈ lw_all := lw_g (lw_at lw_m10 166 rfl) rfl
theorem q2434 : (Jvm.Cond.privateMethod ({ cls := "CircuitDeskModel", name := "passTick", desc := "()V" } : Jvm.MethodName)) ∈ lw_tbl := lw_at lw_m10 167 rfl
theorem q2435 : (Jvm.Cond.instanceMethod ({ cls := "CircuitDeskModel", name := "passTick", desc := "()V" } : Jvm.MethodName)) ∈ lw_all := lw_g (lw_at lw_m10 168 rfl) rfl
theorem q2436 : (Jvm.Cond.code ({ cls := "CircuitDeskModel", name := "passTick", desc := "()V" } : Jvm.MethodName) prog_17_method_105_code (2 : Nat) (Option.none : Option Jvm.ClassFile.FieldType)) ∈ lw_all := lw_g (lw_at lw_m10 169 rfl) rfl
theorem q2437 : (Jvm.Cond.methodLink "CircuitDeskModel" (374 : Nat) ({ cls := "CircuitDeskModel", name := "movePackets", desc := "()V" } : Jvm.MethodName)) ∈ lw_all := lw_g (lw_at lw_m10 170 rfl) rfl
theorem q2438 : (Jvm.Cond.privateMethod ({ cls := "CircuitDeskModel", name := "movePackets", desc := "()V" } : Jvm.MethodName)) ∈ lw_tbl := lw_at lw_m10 171 rfl
theorem q2439 : (Jvm.Cond.instanceMethod ({ cls := "CircuitDeskModel", name := "movePackets", desc := "()V" } : Jvm.MethodName)) ∈ lw_all := lw_g (lw_at lw_m10 172 rfl) rfl
theorem q2440 : (Jvm.Cond.code ({ cls := "CircuitDeskModel", name := "movePackets", desc := "()V" } : Jvm.MethodName) prog_17_method_96_code (3 : Nat) (Option.none : Option Jvm.ClassFile.FieldType)) ∈ lw_all := lw_g (lw_at lw_m10 173 rfl) rfl
theorem q2441 : (Jvm.Cond.methodLink "CircuitDeskModel" (350 : Nat) ({ cls := "CircuitDeskModel", name := "arrive", desc := "(I)Z" } : Jvm.MethodName)) ∈ lw_all := lw_g (lw_at lw_m10 174 rfl) rfl
theorem q2442 : (Jvm.Cond.privateMethod ({ cls := "CircuitDeskModel", name := "arrive", desc := "(I)Z" } : Jvm.MethodName)) ∈ lw_tbl := lw_at lw_m10 175 rfl
theorem q2443 : (Jvm.Cond.instanceMethod ({ cls := "CircuitDeskModel", name := "arrive", desc := "(I)Z" } : Jvm.MethodName)) ∈ lw_all := lw_g (lw_at lw_m10 176 rfl) rfl
theorem q2444 : (Jvm.Cond.code ({ cls := "CircuitDeskModel", name := "arrive", desc := "(I)Z" } : Jvm.MethodName) prog_17_method_95_code (5 : Nat) (Option.some Jvm.ClassFile.FieldType.boolean)) ∈ lw_all := lw_g (lw_at lw_m10 177 rfl) rfl
theorem q2445 : (Jvm.Cond.methodLink "CircuitDeskModel" (344 : Nat) ({ cls := "CircuitDeskModel", name := "deliverPacket", desc := "(I)V" } : Jvm.MethodName)) ∈ lw_all := lw_g (lw_at lw_m10 178 rfl) rfl
theorem q2446 : (Jvm.Cond.privateMethod ({ cls := "CircuitDeskModel", name := "deliverPacket", desc := "(I)V" } : Jvm.MethodName)) ∈ lw_tbl := lw_at lw_m10 179 rfl
theorem q2447 : (Jvm.Cond.instanceMethod ({ cls := "CircuitDeskModel", name := "deliverPacket", desc := "(I)V" } : Jvm.MethodName)) ∈ lw_all := lw_g (lw_at lw_m10 180 rfl) rfl
theorem q2448 : (Jvm.Cond.code ({ cls := "CircuitDeskModel", name := "deliverPacket", desc := "(I)V" } : Jvm.MethodName) prog_17_method_93_code (4 : Nat) (Option.none : Option Jvm.ClassFile.FieldType)) ∈ lw_all := lw_g (lw_at lw_m10 181 rfl) rfl
theorem q2449 : (Jvm.Cond.methodLink "CircuitDeskModel" (347 : Nat) ({ cls := "CircuitDeskModel", name := "setOut", desc := "(III)V" } : Jvm.MethodName)) ∈ lw_all := lw_g (lw_at lw_m10 182 rfl) rfl
theorem q2450 : (Jvm.Cond.privateMethod ({ cls := "CircuitDeskModel", name := "setOut", desc := "(III)V" } : Jvm.MethodName)) ∈ lw_tbl := lw_at lw_m10 183 rfl
theorem q2451 : (Jvm.Cond.instanceMethod ({ cls := "CircuitDeskModel", name := "setOut", desc := "(III)V" } : Jvm.MethodName)) ∈ lw_all := lw_g (lw_at lw_m10 184 rfl) rfl
theorem q2452 : (Jvm.Cond.code ({ cls := "CircuitDeskModel", name := "setOut", desc := "(III)V" } : Jvm.MethodName) prog_17_method_94_code (6 : Nat) (Option.none : Option Jvm.ClassFile.FieldType)) ∈ lw_all := lw_g (lw_at lw_m10 185 rfl) rfl
theorem q2453 : (Jvm.Cond.methodLink "CircuitDeskModel" (377 : Nat) ({ cls := "CircuitDeskModel", name := "moveCircuits", desc := "()V" } : Jvm.MethodName)) ∈ lw_all := lw_g (lw_at lw_m10 186 rfl) rfl
theorem q2454 : (Jvm.Cond.privateMethod ({ cls := "CircuitDeskModel", name := "moveCircuits", desc := "()V" } : Jvm.MethodName)) ∈ lw_tbl := lw_at lw_m10 187 rfl
theorem q2455 : (Jvm.Cond.instanceMethod ({ cls := "CircuitDeskModel", name := "moveCircuits", desc := "()V" } : Jvm.MethodName)) ∈ lw_all := lw_g (lw_at lw_m10 188 rfl) rfl
theorem q2456 : (Jvm.Cond.code ({ cls := "CircuitDeskModel", name := "moveCircuits", desc := "()V" } : Jvm.MethodName) prog_17_method_101_code (2 : Nat) (Option.none : Option Jvm.ClassFile.FieldType)) ∈ lw_all := lw_g (lw_at lw_m10 189 rfl) rfl
theorem q2457 : (Jvm.Cond.methodLink "CircuitDeskModel" (359 : Nat) ({ cls := "CircuitDeskModel", name := "build", desc := "(I)V" } : Jvm.MethodName)) ∈ lw_all := lw_g (lw_at lw_m10 190 rfl) rfl
theorem q2458 : (Jvm.Cond.privateMethod ({ cls := "CircuitDeskModel", name := "build", desc := "(I)V" } : Jvm.MethodName)) ∈ lw_tbl := lw_at lw_m10 191 rfl
theorem q2459 : (Jvm.Cond.instanceMethod ({ cls := "CircuitDeskModel", name := "build", desc := "(I)V" } : Jvm.MethodName)) ∈ lw_all := lw_g (lw_at lw_m10 192 rfl) rfl
theorem q2460 : (Jvm.Cond.code ({ cls := "CircuitDeskModel", name := "build", desc := "(I)V" } : Jvm.MethodName) prog_17_method_98_code (5 : Nat) (Option.none : Option Jvm.ClassFile.FieldType)) ∈ lw_all := lw_g (lw_at lw_m10 193 rfl) rfl
theorem q2461 : (Jvm.Cond.methodLink "CircuitDeskModel" (353 : Nat) ({ cls := "CircuitDeskModel", name := "delayOf", desc := "(I)I" } : Jvm.MethodName)) ∈ lw_all := lw_g (lw_at lw_m10 194 rfl) rfl
theorem q2462 : (Jvm.Cond.privateMethod ({ cls := "CircuitDeskModel", name := "delayOf", desc := "(I)I" } : Jvm.MethodName)) ∈ lw_tbl := lw_at lw_m10 195 rfl
theorem q2463 : (Jvm.Cond.instanceMethod ({ cls := "CircuitDeskModel", name := "delayOf", desc := "(I)I" } : Jvm.MethodName)) ∈ lw_all := lw_g (lw_at lw_m10 196 rfl) rfl
theorem q2464 : (Jvm.Cond.code ({ cls := "CircuitDeskModel", name := "delayOf", desc := "(I)I" } : Jvm.MethodName) prog_17_method_97_code (4 : Nat) (Option.some Jvm.ClassFile.FieldType.int)) ∈ lw_all := lw_g (lw_at lw_m10 197 rfl) rfl
theorem q2465 : (Jvm.Cond.methodLink "CircuitDeskModel" (362 : Nat) ({ cls := "CircuitDeskModel", name := "drain", desc := "(I)V" } : Jvm.MethodName)) ∈ lw_all := lw_g (lw_at lw_m10 198 rfl) rfl
theorem q2466 : (Jvm.Cond.privateMethod ({ cls := "CircuitDeskModel", name := "drain", desc := "(I)V" } : Jvm.MethodName)) ∈ lw_tbl := lw_at lw_m10 199 rfl
theorem q2467 : (Jvm.Cond.instanceMethod ({ cls := "CircuitDeskModel", name := "drain", desc := "(I)V" } : Jvm.MethodName)) ∈ lw_all := lw_g (lw_at lw_m10 200 rfl) rfl
theorem q2468 : (Jvm.Cond.code ({ cls := "CircuitDeskModel", name := "drain", desc := "(I)V" } : Jvm.MethodName) prog_17_method_99_code (2 : Nat) (Option.none : Option Jvm.ClassFile.FieldType)) ∈ lw_all := lw_g (lw_at lw_m10 201 rfl) rfl
theorem q2469 : (Jvm.Cond.methodLink "CircuitDeskModel" (365 : Nat) ({ cls := "CircuitDeskModel", name := "clearWay", desc := "(I)V" } : Jvm.MethodName)) ∈ lw_all := lw_g (lw_at lw_m10 202 rfl) rfl
theorem q2470 : (Jvm.Cond.privateMethod ({ cls := "CircuitDeskModel", name := "clearWay", desc := "(I)V" } : Jvm.MethodName)) ∈ lw_tbl := lw_at lw_m10 203 rfl
theorem q2471 : (Jvm.Cond.instanceMethod ({ cls := "CircuitDeskModel", name := "clearWay", desc := "(I)V" } : Jvm.MethodName)) ∈ lw_all := lw_g (lw_at lw_m10 204 rfl) rfl
theorem q2472 : (Jvm.Cond.code ({ cls := "CircuitDeskModel", name := "clearWay", desc := "(I)V" } : Jvm.MethodName) prog_17_method_100_code (5 : Nat) (Option.none : Option Jvm.ClassFile.FieldType)) ∈ lw_all := lw_g (lw_at lw_m10 205 rfl) rfl
theorem q2473 : (Jvm.Cond.methodLink "CircuitDeskModel" (356 : Nat) ({ cls := "CircuitDeskModel", name := "giveUp", desc := "(II)V" } : Jvm.MethodName)) ∈ lw_all := lw_g (lw_at lw_m10 206 rfl) rfl
theorem q2474 : (Jvm.Cond.privateMethod ({ cls := "CircuitDeskModel", name := "giveUp", desc := "(II)V" } : Jvm.MethodName)) ∈ lw_tbl := lw_at lw_m10 207 rfl
theorem q2475 : (Jvm.Cond.instanceMethod ({ cls := "CircuitDeskModel", name := "giveUp", desc := "(II)V" } : Jvm.MethodName)) ∈ lw_all := lw_g (lw_at lw_m10 208 rfl) rfl
theorem q2476 : (Jvm.Cond.code ({ cls := "CircuitDeskModel", name := "giveUp", desc := "(II)V" } : Jvm.MethodName) prog_17_method_55_code (3 : Nat) (Option.none : Option Jvm.ClassFile.FieldType)) ∈ lw_all := lw_g (lw_at lw_m10 209 rfl) rfl
theorem q2477 : (Jvm.Cond.methodLink "CircuitDeskModel" (380 : Nat) ({ cls := "CircuitDeskModel", name := "sendFrom", desc := "(I)V" } : Jvm.MethodName)) ∈ lw_all := lw_g (lw_at lw_m10 210 rfl) rfl
theorem q2478 : (Jvm.Cond.privateMethod ({ cls := "CircuitDeskModel", name := "sendFrom", desc := "(I)V" } : Jvm.MethodName)) ∈ lw_tbl := lw_at lw_m10 211 rfl
theorem q2479 : (Jvm.Cond.instanceMethod ({ cls := "CircuitDeskModel", name := "sendFrom", desc := "(I)V" } : Jvm.MethodName)) ∈ lw_all := lw_g (lw_at lw_m10 212 rfl) rfl
theorem q2480 : (Jvm.Cond.code ({ cls := "CircuitDeskModel", name := "sendFrom", desc := "(I)V" } : Jvm.MethodName) prog_17_method_104_code (2 : Nat) (Option.none : Option Jvm.ClassFile.FieldType)) ∈ lw_all := lw_g (lw_at lw_m10 213 rfl) rfl
theorem q2481 : (Jvm.Cond.methodLink "CircuitDeskModel" (371 : Nat) ({ cls := "CircuitDeskModel", name := "sendPacket", desc := "(I)V" } : Jvm.MethodName)) ∈ lw_all := lw_g (lw_at lw_m10 214 rfl) rfl
theorem q2482 : (Jvm.Cond.privateMethod ({ cls := "CircuitDeskModel", name := "sendPacket", desc := "(I)V" } : Jvm.MethodName)) ∈ lw_tbl := lw_at lw_m10 215 rfl
theorem q2483 : (Jvm.Cond.instanceMethod ({ cls := "CircuitDeskModel", name := "sendPacket", desc := "(I)V" } : Jvm.MethodName)) ∈ lw_all := lw_g (lw_at lw_m10 216 rfl) rfl
theorem q2484 : (Jvm.Cond.code ({ cls := "CircuitDeskModel", name := "sendPacket", desc := "(I)V" } : Jvm.MethodName) prog_17_method_103_code (4 : Nat) (Option.none : Option Jvm.ClassFile.FieldType)) ∈ lw_all := lw_g (lw_at lw_m10 217 rfl) rfl
theorem q2485 : (Jvm.Cond.methodLink "CircuitDeskModel" (368 : Nat) ({ cls := "CircuitDeskModel", name := "activePlace", desc := "(I)I" } : Jvm.MethodName)) ∈ lw_all := lw_g (lw_at lw_m10 218 rfl) rfl
theorem q2486 : (Jvm.Cond.privateMethod ({ cls := "CircuitDeskModel", name := "activePlace", desc := "(I)I" } : Jvm.MethodName)) ∈ lw_tbl := lw_at lw_m10 219 rfl
theorem q2487 : (Jvm.Cond.instanceMethod ({ cls := "CircuitDeskModel", name := "activePlace", desc := "(I)I" } : Jvm.MethodName)) ∈ lw_all := lw_g (lw_at lw_m10 220 rfl) rfl
theorem q2488 : (Jvm.Cond.code ({ cls := "CircuitDeskModel", name := "activePlace", desc := "(I)I" } : Jvm.MethodName) prog_17_method_102_code (2 : Nat) (Option.some Jvm.ClassFile.FieldType.int)) ∈ lw_all := lw_g (lw_at lw_m10 221 rfl) rfl
theorem q2489 : (Jvm.Cond.methodLink "CircuitDeskLaw" (203 : Nat) ({ cls := "CircuitDeskModel", name := "circuit", desc := "(II)I" } : Jvm.MethodName)) ∈ lw_all := lw_g (lw_at lw_m10 222 rfl) rfl
theorem q2490 : (Jvm.Cond.instanceMethod ({ cls := "CircuitDeskModel", name := "circuit", desc := "(II)I" } : Jvm.MethodName)) ∈ lw_all := lw_g (lw_at lw_m10 223 rfl) rfl
theorem q2491 : (Jvm.Cond.selects "CircuitDeskModel" ({ cls := "CircuitDeskModel", name := "circuit", desc := "(II)I" } : Jvm.MethodName) ({ cls := "CircuitDeskModel", name := "circuit", desc := "(II)I" } : Jvm.MethodName)) ∈ lw_all := lw_g (lw_at lw_m10 224 rfl) rfl
theorem q2492 : (Jvm.Cond.code ({ cls := "CircuitDeskModel", name := "circuit", desc := "(II)I" } : Jvm.MethodName) prog_17_method_108_code (3 : Nat) (Option.some Jvm.ClassFile.FieldType.int)) ∈ lw_all := lw_g (lw_at lw_m10 225 rfl) rfl
theorem q2493 : (Jvm.Cond.methodLink "CircuitDeskLaw" (207 : Nat) ({ cls := "CircuitDeskModel", name := "way", desc := "(IZII)I" } : Jvm.MethodName)) ∈ lw_all := lw_g (lw_at lw_m10 226 rfl) rfl
theorem q2494 : (Jvm.Cond.instanceMethod ({ cls := "CircuitDeskModel", name := "way", desc := "(IZII)I" } : Jvm.MethodName)) ∈ lw_all := lw_g (lw_at lw_m10 227 rfl) rfl
theorem q2495 : (Jvm.Cond.selects "CircuitDeskModel" ({ cls := "CircuitDeskModel", name := "way", desc := "(IZII)I" } : Jvm.MethodName) ({ cls := "CircuitDeskModel", name := "way", desc := "(IZII)I" } : Jvm.MethodName)) ∈ lw_all := lw_g (lw_at lw_m10 228 rfl) rfl
theorem q2496 : (Jvm.Cond.code ({ cls := "CircuitDeskModel", name := "way", desc := "(IZII)I" } : Jvm.MethodName) prog_17_method_109_code (6 : Nat) (Option.some Jvm.ClassFile.FieldType.int)) ∈ lw_all := lw_g (lw_at lw_m10 229 rfl) rfl
theorem q2497 : (Jvm.Cond.methodLink "CircuitDeskLaw" (210 : Nat) ({ cls := "CircuitDeskModel", name := "packet", desc := "(II)I" } : Jvm.MethodName)) ∈ lw_all := lw_g (lw_at lw_m10 230 rfl) rfl
theorem q2498 : (Jvm.Cond.instanceMethod ({ cls := "CircuitDeskModel", name := "packet", desc := "(II)I" } : Jvm.MethodName)) ∈ lw_all := lw_g (lw_at lw_m10 231 rfl) rfl
theorem q2499 : (Jvm.Cond.selects "CircuitDeskModel" ({ cls := "CircuitDeskModel", name := "packet", desc := "(II)I" } : Jvm.MethodName) ({ cls := "CircuitDeskModel", name := "packet", desc := "(II)I" } : Jvm.MethodName)) ∈ lw_all := lw_g (lw_at lw_m10 232 rfl) rfl
theorem q2500 : (Jvm.Cond.code ({ cls := "CircuitDeskModel", name := "packet", desc := "(II)I" } : Jvm.MethodName) prog_17_method_110_code (3 : Nat) (Option.some Jvm.ClassFile.FieldType.int)) ∈ lw_all := lw_g (lw_at lw_m10 233 rfl) rfl
theorem q2501 : (Jvm.Cond.methodLink "CircuitDeskLaw" (214 : Nat) ({ cls := "CircuitDeskModel", name := "meanDelay", desc := "(I)D" } : Jvm.MethodName)) ∈ lw_all := lw_g (lw_at lw_m10 234 rfl) rfl
theorem q2502 : (Jvm.Cond.instanceMethod ({ cls := "CircuitDeskModel", name := "meanDelay", desc := "(I)D" } : Jvm.MethodName)) ∈ lw_all := lw_g (lw_at lw_m10 235 rfl) rfl
theorem q2503 : (Jvm.Cond.selects "CircuitDeskModel" ({ cls := "CircuitDeskModel", name := "meanDelay", desc := "(I)D" } : Jvm.MethodName) ({ cls := "CircuitDeskModel", name := "meanDelay", desc := "(I)D" } : Jvm.MethodName)) ∈ lw_all := lw_g (lw_at lw_m10 236 rfl) rfl
theorem q2504 : (Jvm.Cond.code ({ cls := "CircuitDeskModel", name := "meanDelay", desc := "(I)D" } : Jvm.MethodName) prog_17_method_111_code (3 : Nat) (Option.some Jvm.ClassFile.FieldType.double)) ∈ lw_all := lw_g (lw_at lw_m10 237 rfl) rfl
theorem q2505 : (Jvm.Cond.constantDouble "CircuitDeskModel" (389 : Nat) (13830554455654793216 : UInt64)) ∈ lw_all := lw_g (lw_at lw_m10 238 rfl) rfl
theorem q2506 : (Jvm.Cond.methodLink "CircuitDeskLaw" (219 : Nat) ({ cls := "CircuitDeskModel", name := "usage", desc := "()F" } : Jvm.MethodName)) ∈ lw_all := lw_g (lw_at lw_m10 239 rfl) rfl
theorem q2507 : (Jvm.Cond.instanceMethod ({ cls := "CircuitDeskModel", name := "usage", desc := "()F" } : Jvm.MethodName)) ∈ lw_all := lw_g (lw_at lw_m11 0 rfl) rfl
theorem q2508 : (Jvm.Cond.selects "CircuitDeskModel" ({ cls := "CircuitDeskModel", name := "usage", desc := "()F" } : Jvm.MethodName) ({ cls := "CircuitDeskModel", name := "usage", desc := "()F" } : Jvm.MethodName)) ∈ lw_all := lw_g (lw_at lw_m11 1 rfl) rfl
theorem q2509 : (Jvm.Cond.code ({ cls := "CircuitDeskModel", name := "usage", desc := "()F" } : Jvm.MethodName) prog_17_method_112_code (4 : Nat) (Option.some Jvm.ClassFile.FieldType.float)) ∈ lw_all := lw_g (lw_at lw_m11 2 rfl) rfl
theorem q2510 : (Jvm.Cond.methodLink "CircuitDeskLaw" (222 : Nat) ({ cls := "CircuitDeskModel", name := "canMove", desc := "(II)I" } : Jvm.MethodName)) ∈ lw_all := lw_g (lw_at lw_m11 3 rfl) rfl
theorem q2511 : (Jvm.Cond.instanceMethod ({ cls := "CircuitDeskModel", name := "canMove", desc := "(II)I" } : Jvm.MethodName)) ∈ lw_all := lw_g (lw_at lw_m11 4 rfl) rfl
theorem q2512 : (Jvm.Cond.selects "CircuitDeskModel" ({ cls := "CircuitDeskModel", name := "canMove", desc := "(II)I" } : Jvm.MethodName) ({ cls := "CircuitDeskModel", name := "canMove", desc := "(II)I" } : Jvm.MethodName)) ∈ lw_all := lw_g (lw_at lw_m11 5 rfl) rfl
theorem q2513 : (Jvm.Cond.code ({ cls := "CircuitDeskModel", name := "canMove", desc := "(II)I" } : Jvm.MethodName) prog_17_method_113_code (4 : Nat) (Option.some Jvm.ClassFile.FieldType.int)) ∈ lw_all := lw_g (lw_at lw_m11 6 rfl) rfl
theorem q2514 : (Jvm.Cond.methodLink "CircuitDeskLaw" (225 : Nat) ({ cls := "CircuitDeskModel", name := "movedIn", desc := "(I)I" } : Jvm.MethodName)) ∈ lw_all := lw_g (lw_at lw_m11 7 rfl) rfl
theorem q2515 : (Jvm.Cond.instanceMethod ({ cls := "CircuitDeskModel", name := "movedIn", desc := "(I)I" } : Jvm.MethodName)) ∈ lw_all := lw_g (lw_at lw_m11 8 rfl) rfl
theorem q2516 : (Jvm.Cond.selects "CircuitDeskModel" ({ cls := "CircuitDeskModel", name := "movedIn", desc := "(I)I" } : Jvm.MethodName) ({ cls := "CircuitDeskModel", name := "movedIn", desc := "(I)I" } : Jvm.MethodName)) ∈ lw_all := lw_g (lw_at lw_m11 9 rfl) rfl
theorem q2517 : (Jvm.Cond.code ({ cls := "CircuitDeskModel", name := "movedIn", desc := "(I)I" } : Jvm.MethodName) prog_17_method_114_code (3 : Nat) (Option.some Jvm.ClassFile.FieldType.int)) ∈ lw_all := lw_g (lw_at lw_m11 10 rfl) rfl
theorem q2518 : (Jvm.Cond.methodLink "CircuitDeskLaw" (228 : Nat) ({ cls := "CircuitDeskModel", name := "ahead", desc := "(II)I" } : Jvm.MethodName)) ∈ lw_all := lw_g (lw_at lw_m11 11 rfl) rfl
theorem q2519 : (Jvm.Cond.instanceMethod ({ cls := "CircuitDeskModel", name := "ahead", desc := "(II)I" } : Jvm.MethodName)) ∈ lw_all := lw_g (lw_at lw_m11 12 rfl) rfl
theorem q2520 : (Jvm.Cond.selects "CircuitDeskModel" ({ cls := "CircuitDeskModel", name := "ahead", desc := "(II)I" } : Jvm.MethodName) ({ cls := "CircuitDeskModel", name := "ahead", desc := "(II)I" } : Jvm.MethodName)) ∈ lw_all := lw_g (lw_at lw_m11 13 rfl) rfl
theorem q2521 : (Jvm.Cond.code ({ cls := "CircuitDeskModel", name := "ahead", desc := "(II)I" } : Jvm.MethodName) prog_17_method_115_code (6 : Nat) (Option.some Jvm.ClassFile.FieldType.int)) ∈ lw_all := lw_g (lw_at lw_m11 14 rfl) rfl
theorem q2522 : (Jvm.Cond.methodLink "CircuitDeskLaw" (232 : Nat) ({ cls := "CircuitDeskModel", name := "weakLink", desc := "()I" } : Jvm.MethodName)) ∈ lw_all := lw_g (lw_at lw_m11 15 rfl) rfl
theorem q2523 : (Jvm.Cond.instanceMethod ({ cls := "CircuitDeskModel", name := "weakLink", desc := "()I" } : Jvm.MethodName)) ∈ lw_all := lw_g (lw_at lw_m11 16 rfl) rfl
theorem q2524 : (Jvm.Cond.selects "CircuitDeskModel" ({ cls := "CircuitDeskModel", name := "weakLink", desc := "()I" } : Jvm.MethodName) ({ cls := "CircuitDeskModel", name := "weakLink", desc := "()I" } : Jvm.MethodName)) ∈ lw_all := lw_g (lw_at lw_m11 17 rfl) rfl
theorem q2525 : (Jvm.Cond.code ({ cls := "CircuitDeskModel", name := "weakLink", desc := "()I" } : Jvm.MethodName) prog_17_method_117_code (5 : Nat) (Option.some Jvm.ClassFile.FieldType.int)) ∈ lw_all := lw_g (lw_at lw_m11 18 rfl) rfl
theorem q2526 : (Jvm.Cond.methodLink "CircuitDeskModel" (391 : Nat) ({ cls := "CircuitDeskModel", name := "cutOff", desc := "(I)I" } : Jvm.MethodName)) ∈ lw_all := lw_g (lw_at lw_m11 19 rfl) rfl
theorem q2527 : (Jvm.Cond.privateMethod ({ cls := "CircuitDeskModel", name := "cutOff", desc := "(I)I" } : Jvm.MethodName)) ∈ lw_tbl := lw_at lw_m11 20 rfl
theorem q2528 : (Jvm.Cond.instanceMethod ({ cls := "CircuitDeskModel", name := "cutOff", desc := "(I)I" } : Jvm.MethodName)) ∈ lw_all := lw_g (lw_at lw_m11 21 rfl) rfl
theorem q2529 : (Jvm.Cond.code ({ cls := "CircuitDeskModel", name := "cutOff", desc := "(I)I" } : Jvm.MethodName) prog_17_method_116_code (5 : Nat) (Option.some Jvm.ClassFile.FieldType.int)) ∈ lw_all := lw_g (lw_at lw_m11 22 rfl) rfl
theorem q2530 : (Jvm.Cond.methodLink "CircuitDeskLaw" (236 : Nat) ({ cls := "CircuitDeskModel", name := "save", desc := "(I)V" } : Jvm.MethodName)) ∈ lw_all := lw_g (lw_at lw_m11 23 rfl) rfl
theorem q2531 : (Jvm.Cond.instanceMethod ({ cls := "CircuitDeskModel", name := "save", desc := "(I)V" } : Jvm.MethodName)) ∈ lw_all := lw_g (lw_at lw_m11 24 rfl) rfl
theorem q2532 : (Jvm.Cond.selects "CircuitDeskModel" ({ cls := "CircuitDeskModel", name := "save", desc := "(I)V" } : Jvm.MethodName) ({ cls := "CircuitDeskModel", name := "save", desc := "(I)V" } : Jvm.MethodName)) ∈ lw_all := lw_g (lw_at lw_m11 25 rfl) rfl
theorem q2533 : (Jvm.Cond.code ({ cls := "CircuitDeskModel", name := "save", desc := "(I)V" } : Jvm.MethodName) prog_17_method_118_code (2 : Nat) (Option.none : Option Jvm.ClassFile.FieldType)) ∈ lw_all := lw_g (lw_at lw_m11 26 rfl) rfl
theorem q2534 : (Jvm.Cond.methodLink "CircuitDeskLaw" (239 : Nat) ({ cls := "CircuitDeskModel", name := "restore", desc := "(I)V" } : Jvm.MethodName)) ∈ lw_all := lw_g (lw_at lw_m11 27 rfl) rfl
theorem q2535 : (Jvm.Cond.instanceMethod ({ cls := "CircuitDeskModel", name := "restore", desc := "(I)V" } : Jvm.MethodName)) ∈ lw_all := lw_g (lw_at lw_m11 28 rfl) rfl
theorem q2536 : (Jvm.Cond.selects "CircuitDeskModel" ({ cls := "CircuitDeskModel", name := "restore", desc := "(I)V" } : Jvm.MethodName) ({ cls := "CircuitDeskModel", name := "restore", desc := "(I)V" } : Jvm.MethodName)) ∈ lw_all := lw_g (lw_at lw_m11 29 rfl) rfl
theorem q2537 : (Jvm.Cond.code ({ cls := "CircuitDeskModel", name := "restore", desc := "(I)V" } : Jvm.MethodName) prog_17_method_119_code (2 : Nat) (Option.none : Option Jvm.ClassFile.FieldType)) ∈ lw_all := lw_g (lw_at lw_m11 30 rfl) rfl
theorem q2538 : (Jvm.Cond.arrayClass Jvm.ClassFile.FieldType.long) ∈ lw_all := lw_g (lw_at lw_m11 31 rfl) rfl
theorem q2539 : (Jvm.Cond.arrayClass Jvm.ClassFile.FieldType.double) ∈ lw_all := lw_g (lw_at lw_m11 32 rfl) rfl
theorem q2540 : (Jvm.Cond.sameMethod "java/lang/Throwable" "java/lang/Throwable" "fillInStackTrace" "(I)Ljava/lang/Throwable;") ∈ lw_all := lw_g (lw_at lw_m11 33 rfl) rfl
theorem q2541 : (Jvm.Cond.sameMethod "java/lang/AbstractStringBuilder" "java/lang/AbstractStringBuilder" "append" "(Ljava/lang/String;)Ljava/lang/AbstractStringBuilder;") ∈ lw_all := lw_g (lw_at lw_m11 34 rfl) rfl
theorem q2542 : (Jvm.Cond.sameMethod "java/lang/AbstractStringBuilder" "java/lang/AbstractStringBuilder" "appendNull" "()Ljava/lang/AbstractStringBuilder;") ∈ lw_all := lw_g (lw_at lw_m11 35 rfl) rfl
theorem q2543 : (Jvm.Cond.sameMethod "java/lang/AbstractStringBuilder" "java/lang/AbstractStringBuilder" "ensureCapacityInternal" "(I)V") ∈ lw_all := lw_g (lw_at lw_m11 36 rfl) rfl
theorem q2544 : (Jvm.Cond.sameMethod "java/lang/AbstractStringBuilder" "java/lang/AbstractStringBuilder" "newCapacity" "(I)I") ∈ lw_all := lw_g (lw_at lw_m11 37 rfl) rfl
theorem q2545 : (Jvm.Cond.sameMethod "java/lang/AbstractStringBuilder" "java/lang/AbstractStringBuilder" "putStringAt" "(ILjava/lang/String;)V") ∈ lw_all := lw_g (lw_at lw_m11 38 rfl) rfl
theorem q2546 : (Jvm.Cond.sameMethod "java/lang/AbstractStringBuilder" "java/lang/AbstractStringBuilder" "inflateIfNeededFor" "(Ljava/lang/String;)V") ∈ lw_all := lw_g (lw_at lw_m11 39 rfl) rfl
theorem q2547 : (Jvm.Cond.sameMethod "java/lang/AbstractStringBuilder" "java/lang/AbstractStringBuilder" "inflate" "()V") ∈ lw_all := lw_g (lw_at lw_m11 40 rfl) rfl
theorem q2548 : (Jvm.Cond.sameMethod "java/lang/AbstractStringBuilder" "java/lang/AbstractStringBuilder" "append" "(I)Ljava/lang/AbstractStringBuilder;") ∈ lw_all := lw_g (lw_at lw_m11 41 rfl) rfl
theorem q2549 : (Jvm.Cond.sameMethod "java/lang/AbstractStringBuilder" "java/lang/AbstractStringBuilder" "append" "(C)Ljava/lang/AbstractStringBuilder;") ∈ lw_all := lw_g (lw_at lw_m11 42 rfl) rfl
theorem q2550 : (Jvm.Cond.initialized "java/lang/Object") ∈ lw_all := lw_g (lw_at lw_m11 43 rfl) rfl
theorem q2551 : (Jvm.Cond.castable "java/lang/ArrayIndexOutOfBoundsException" "java/lang/IndexOutOfBoundsException") ∈ lw_tbl := lw_at lw_m11 44 rfl
theorem q2552 : (Jvm.Cond.castable "CircuitDesk$Phase" "java/lang/Object") ∈ lw_tbl := lw_at lw_m11 45 rfl
theorem q2553 : (Jvm.Cond.castable "CircuitDesk$Net" "java/lang/Object") ∈ lw_tbl := lw_at lw_m11 46 rfl
theorem q2554 : (Jvm.Cond.castable "CircuitDesk" "java/lang/Object") ∈ lw_tbl := lw_at lw_m11 47 rfl
theorem q2555 : (Jvm.Cond.castable "java/util/ArrayList" "java/lang/Object") ∈ lw_tbl := lw_at lw_m11 48 rfl
theorem q2556 : (Jvm.Cond.castable "java/lang/IllegalArgumentException" "java/lang/Object") ∈ lw_tbl := lw_at lw_m11 49 rfl
theorem q2557 : (Jvm.Cond.castable "java/lang/StringBuilder" "java/lang/Object") ∈ lw_tbl := lw_at lw_m11 50 rfl
theorem q2558 : (Jvm.Cond.castable "java/lang/String" "java/lang/Object") ∈ lw_tbl := lw_at lw_m11 51 rfl
theorem q2559 : (Jvm.Cond.castable "CircuitDesk$Resting" "java/lang/Object") ∈ lw_tbl := lw_at lw_m11 52 rfl
theorem q2560 : (Jvm.Cond.castable "CircuitDesk$Building" "java/lang/Object") ∈ lw_tbl := lw_at lw_m11 53 rfl
theorem q2561 : (Jvm.Cond.castable "CircuitDesk$Draining" "java/lang/Object") ∈ lw_tbl := lw_at lw_m11 54 rfl
theorem q2562 : (Jvm.Cond.castable "CircuitDesk$Clearing" "java/lang/Object") ∈ lw_tbl := lw_at lw_m11 55 rfl
theorem q2563 : (Jvm.Cond.castable "CircuitDesk$Way" "java/lang/Object") ∈ lw_tbl := lw_at lw_m11 56 rfl
theorem q2564 : (Jvm.Cond.castable "CircuitDeskModel" "java/lang/Object") ∈ lw_tbl := lw_at lw_m11 57 rfl
theorem q2565 : (Jvm.Cond.castable "java/lang/IllegalStateException" "java/lang/Object") ∈ lw_tbl := lw_at lw_m11 58 rfl
theorem q2566 : (Jvm.Cond.castable "CircuitDesk$Parser" "java/lang/Object") ∈ lw_tbl := lw_at lw_m11 59 rfl
theorem q2567 : (Jvm.Cond.castable "java/lang/System$2" "java/lang/Object") ∈ lw_tbl := lw_at lw_m11 60 rfl
theorem q2568 : (Jvm.Cond.castable "CircuitDesk$TextError" "java/lang/Object") ∈ lw_tbl := lw_at lw_m11 61 rfl
theorem q2569 : (Jvm.Cond.castable "CircuitDesk$Node" "java/lang/Object") ∈ lw_tbl := lw_at lw_m11 62 rfl
theorem q2570 : (Jvm.Cond.castable "CircuitDesk$Link" "java/lang/Object") ∈ lw_tbl := lw_at lw_m11 63 rfl
theorem q2571 : (Jvm.Cond.castable "CircuitDesk$Circuit" "java/lang/Object") ∈ lw_tbl := lw_at lw_m11 64 rfl
theorem q2572 : (Jvm.Cond.castable "java/lang/ArrayIndexOutOfBoundsException" "java/lang/Object") ∈ lw_tbl := lw_at lw_m11 65 rfl
theorem q2573 : (Jvm.Cond.castable "java/lang/IndexOutOfBoundsException" "java/lang/Object") ∈ lw_tbl := lw_at lw_m11 66 rfl
theorem q2574 : (Jvm.Cond.castable "java/util/ArrayList$Itr" "java/lang/Object") ∈ lw_tbl := lw_at lw_m11 67 rfl
theorem q2575 : (Jvm.Cond.castable "CircuitDesk$Search" "java/lang/Object") ∈ lw_tbl := lw_at lw_m11 68 rfl
theorem q2576 : (Jvm.Cond.castable "CircuitDesk$Packet" "java/lang/Object") ∈ lw_tbl := lw_at lw_m11 69 rfl
theorem q2577 : (Jvm.Cond.castable "java/lang/Throwable" "java/lang/Object") ∈ lw_tbl := lw_at lw_m11 70 rfl
theorem q2578 : (Jvm.Cond.sameMethod "[Ljava/lang/Object;" "java/lang/Object" "getClass" "()Ljava/lang/Class;") ∈ lw_all := lw_g (lw_at lw_m11 71 rfl) rfl
theorem q2579 : (Jvm.Cond.selects "[Ljava/lang/Object;" ({ cls := "java/lang/Object", name := "getClass", desc := "()Ljava/lang/Class;" } : Jvm.MethodName) ({ cls := "java/lang/Object", name := "getClass", desc := "()Ljava/lang/Class;" } : Jvm.MethodName)) ∈ lw_all := lw_g (lw_at lw_m11 72 rfl) rfl
theorem q2580 : (Jvm.Cond.declares ({ cls := "java/lang/Object", name := "getClass", desc := "()Ljava/lang/Class;" } : Jvm.MethodName)) ∈ lw_tbl := lw_at lw_m11 73 rfl
theorem q2581 : (Jvm.Cond.castable "[Ljava/lang/Object;" "java/lang/Object") ∈ lw_tbl := lw_at lw_m11 74 rfl
theorem q2582 : (Jvm.Cond.castable "[I" "java/lang/Object") ∈ lw_tbl := lw_at lw_m11 75 rfl
theorem q2583 : (Jvm.Cond.castable "[B" "java/lang/Object") ∈ lw_tbl := lw_at lw_m11 76 rfl
theorem q2584 : (Jvm.Cond.castable "[LCircuitDesk$Phase;" "java/lang/Object") ∈ lw_tbl := lw_at lw_m11 77 rfl
theorem q2585 : (Jvm.Cond.castable "[LCircuitDesk$Net;" "java/lang/Object") ∈ lw_tbl := lw_at lw_m11 78 rfl
theorem q2586 : (Jvm.Cond.castable "[Z" "java/lang/Object") ∈ lw_tbl := lw_at lw_m11 79 rfl
theorem q2587 : (Jvm.Cond.castable "[J" "java/lang/Object") ∈ lw_tbl := lw_at lw_m11 80 rfl
theorem q2588 : (Jvm.Cond.castable "[D" "java/lang/Object") ∈ lw_tbl := lw_at lw_m11 81 rfl
theorem q2589 : (Jvm.Cond.arrayClass Jvm.ClassFile.FieldType.char) ∈ lw_all := lw_g (lw_at lw_m11 82 rfl) rfl
theorem q2590 : (Jvm.Cond.arrayClass Jvm.ClassFile.FieldType.short) ∈ lw_all := lw_g (lw_at lw_m11 83 rfl) rfl
