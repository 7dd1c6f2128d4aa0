set_option maxRecDepth 100000
theorem q80 : (Jvm.Cond.initialized "MasterTreeLaw") ∈ lw_all := lw_g (lw_at lw_m1 0 rfl) rfl
theorem q81 : (Jvm.Cond.initialized "MasterTree") ∈ lw_all := lw_g (lw_at lw_m1 1 rfl) rfl
theorem q82 : (Jvm.Cond.initialized "java/util/AbstractCollection") ∈ lw_all := lw_g (lw_at lw_m1 2 rfl) rfl
theorem q83 : (Jvm.Cond.initialized "java/util/AbstractList") ∈ lw_all := lw_g (lw_at lw_m1 3 rfl) rfl
theorem q84 : (Jvm.Cond.initialized "java/util/ArrayList") ∈ lw_all := lw_g (lw_at lw_m1 4 rfl) rfl
theorem q85 : (Jvm.Cond.initialized "MasterTree$Master") ∈ lw_all := lw_g (lw_at lw_m1 5 rfl) rfl
theorem q86 : (Jvm.Cond.initialized "java/util/AbstractMap") ∈ lw_all := lw_g (lw_at lw_m1 6 rfl) rfl
theorem q87 : (Jvm.Cond.initialized "java/util/TreeMap") ∈ lw_all := lw_g (lw_at lw_m1 7 rfl) rfl
theorem q88 : (Jvm.Cond.initialized "MasterTree$Entry") ∈ lw_all := lw_g (lw_at lw_m1 8 rfl) rfl
theorem q89 : (Jvm.Cond.initialized "jdk/internal/util/ArraysSupport") ∈ lw_all := lw_g (lw_at lw_m1 9 rfl) rfl
theorem q90 : (Jvm.Cond.initialized "java/lang/Math") ∈ lw_all := lw_g (lw_at lw_m1 10 rfl) rfl
theorem q91 : (Jvm.Cond.initialized "java/util/Arrays") ∈ lw_all := lw_g (lw_at lw_m1 11 rfl) rfl
theorem q92 : (Jvm.Cond.initialized "java/lang/System") ∈ lw_all := lw_g (lw_at lw_m1 12 rfl) rfl
theorem q93 : (Jvm.Cond.initialized "MasterTreeModel") ∈ lw_all := lw_g (lw_at lw_m1 13 rfl) rfl
theorem q94 : (Jvm.Cond.initialized "java/lang/Throwable") ∈ lw_all := lw_g (lw_at lw_m1 14 rfl) rfl
theorem q95 : (Jvm.Cond.initialized "java/lang/Exception") ∈ lw_all := lw_g (lw_at lw_m1 15 rfl) rfl
theorem q96 : (Jvm.Cond.initialized "java/lang/RuntimeException") ∈ lw_all := lw_g (lw_at lw_m1 16 rfl) rfl
theorem q97 : (Jvm.Cond.initialized "java/lang/IllegalStateException") ∈ lw_all := lw_g (lw_at lw_m1 17 rfl) rfl
theorem q98 : (Jvm.Cond.initialized "MasterTree$Attribute") ∈ lw_all := lw_g (lw_at lw_m1 18 rfl) rfl
theorem q99 : (Jvm.Cond.initialized "java/lang/IndexOutOfBoundsException") ∈ lw_all := lw_g (lw_at lw_m1 19 rfl) rfl
theorem q100 : (Jvm.Cond.initialized "java/lang/ArrayIndexOutOfBoundsException") ∈ lw_all := lw_g (lw_at lw_m1 20 rfl) rfl
theorem q101 : (Jvm.Cond.initialized "java/lang/String") ∈ lw_all := lw_g (lw_at lw_m1 21 rfl) rfl
theorem q102 : (Jvm.Cond.initialized "java/lang/AbstractStringBuilder") ∈ lw_all := lw_g (lw_at lw_m1 22 rfl) rfl
theorem q103 : (Jvm.Cond.initialized "java/lang/StringBuilder") ∈ lw_all := lw_g (lw_at lw_m1 23 rfl) rfl
theorem q104 : (Jvm.Cond.initialized "java/lang/StringUTF16") ∈ lw_all := lw_g (lw_at lw_m1 24 rfl) rfl
theorem q105 : (Jvm.Cond.initialized "jdk/internal/util/Preconditions") ∈ lw_all := lw_g (lw_at lw_m1 25 rfl) rfl
theorem q106 : (Jvm.Cond.initialized "java/lang/StringLatin1") ∈ lw_all := lw_g (lw_at lw_m1 26 rfl) rfl
theorem q107 : (Jvm.Cond.initialized "java/lang/Number") ∈ lw_all := lw_g (lw_at lw_m1 27 rfl) rfl
theorem q108 : (Jvm.Cond.initialized "java/lang/Integer") ∈ lw_all := lw_g (lw_at lw_m1 28 rfl) rfl
theorem q109 : (Jvm.Cond.initialized "java/lang/IllegalArgumentException") ∈ lw_all := lw_g (lw_at lw_m1 29 rfl) rfl
theorem q110 : (Jvm.Cond.initialized "java/util/Objects") ∈ lw_all := lw_g (lw_at lw_m1 30 rfl) rfl
theorem q111 : (Jvm.Cond.initialized "MasterTree$Klass") ∈ lw_all := lw_g (lw_at lw_m1 31 rfl) rfl
theorem q112 : (Jvm.Cond.initialized "java/util/AbstractSet") ∈ lw_all := lw_g (lw_at lw_m1 32 rfl) rfl
theorem q113 : (Jvm.Cond.initialized "java/util/TreeMap$EntrySet") ∈ lw_all := lw_g (lw_at lw_m1 33 rfl) rfl
theorem q114 : (Jvm.Cond.initialized "java/util/TreeMap$NavigableSubMap$SubMapIterator") ∈ lw_all := lw_g (lw_at lw_m1 34 rfl) rfl
theorem q115 : (Jvm.Cond.initialized "java/util/TreeMap$NavigableSubMap$SubMapEntryIterator") ∈ lw_all := lw_g (lw_at lw_m1 35 rfl) rfl
theorem q116 : (Jvm.Cond.initialized "java/lang/Long") ∈ lw_all := lw_g (lw_at lw_m1 36 rfl) rfl
theorem q117 : (Jvm.Cond.initialized "jdk/internal/misc/Unsafe") ∈ lw_all := lw_g (lw_at lw_m1 37 rfl) rfl
theorem q118 : (Jvm.Cond.initialized "jdk/internal/misc/UnsafeConstants") ∈ lw_all := lw_g (lw_at lw_m1 38 rfl) rfl
theorem q119 : (Jvm.Cond.initialized "java/util/TreeMap$PrivateEntryIterator") ∈ lw_all := lw_g (lw_at lw_m1 39 rfl) rfl
theorem q120 : (Jvm.Cond.initialized "java/util/TreeMap$EntryIterator") ∈ lw_all := lw_g (lw_at lw_m1 40 rfl) rfl
theorem q121 : (Jvm.Cond.initialized "java/util/TreeMap$KeyIterator") ∈ lw_all := lw_g (lw_at lw_m1 41 rfl) rfl
theorem q122 : (Jvm.Cond.initialized "java/util/TreeMap$NavigableSubMap$SubMapKeyIterator") ∈ lw_all := lw_g (lw_at lw_m1 42 rfl) rfl
theorem q123 : (Jvm.Cond.initialized "java/lang/Integer$IntegerCache") ∈ lw_all := lw_g (lw_at lw_m1 43 rfl) rfl
theorem q124 : (Jvm.Cond.initialized "java/util/ArrayList$Itr") ∈ lw_all := lw_g (lw_at lw_m1 44 rfl) rfl
theorem q125 : (Jvm.Cond.initialized "java/lang/Enum") ∈ lw_all := lw_g (lw_at lw_m1 45 rfl) rfl
theorem q126 : (Jvm.Cond.initialized "MasterTree$Kind") ∈ lw_all := lw_g (lw_at lw_m1 46 rfl) rfl
theorem q127 : (Jvm.Cond.initialized "MasterTree$Change") ∈ lw_all := lw_g (lw_at lw_m1 47 rfl) rfl
theorem q128 : (Jvm.Cond.initialized "java/util/TreeMap$KeySet") ∈ lw_all := lw_g (lw_at lw_m1 48 rfl) rfl
theorem q129 : (Jvm.Cond.initialized "java/lang/Long$LongCache") ∈ lw_all := lw_g (lw_at lw_m1 49 rfl) rfl
theorem q130 : (Jvm.Cond.initialized "java/util/TreeMap$Entry") ∈ lw_all := lw_g (lw_at lw_m1 50 rfl) rfl
theorem q131 : (Jvm.Cond.initialized "java/util/TreeMap$NavigableSubMap") ∈ lw_all := lw_g (lw_at lw_m1 51 rfl) rfl
theorem q132 : (Jvm.Cond.initialized "java/util/TreeMap$AscendingSubMap") ∈ lw_all := lw_g (lw_at lw_m1 52 rfl) rfl
theorem q133 : (Jvm.Cond.initialized "java/util/TreeMap$NavigableSubMap$EntrySetView") ∈ lw_all := lw_g (lw_at lw_m1 53 rfl) rfl
theorem q134 : (Jvm.Cond.initialized "java/util/TreeMap$AscendingSubMap$AscendingEntrySetView") ∈ lw_all := lw_g (lw_at lw_m1 54 rfl) rfl
theorem q135 : (Jvm.Cond.initialized "java/util/AbstractMap$2$1") ∈ lw_all := lw_g (lw_at lw_m1 55 rfl) rfl
theorem q136 : (Jvm.Cond.initialized "java/util/TreeMap$ValueIterator") ∈ lw_all := lw_g (lw_at lw_m1 56 rfl) rfl
theorem q137 : (Jvm.Cond.initialized "java/util/ConcurrentModificationException") ∈ lw_all := lw_g (lw_at lw_m1 57 rfl) rfl
theorem q138 : (Jvm.Cond.initialized "MasterTree$Filter") ∈ lw_all := lw_g (lw_at lw_m1 58 rfl) rfl
theorem q139 : (Jvm.Cond.initialized "MasterTree$ByValue") ∈ lw_all := lw_g (lw_at lw_m1 59 rfl) rfl
theorem q140 : (Jvm.Cond.initialized "MasterTree$ByClass") ∈ lw_all := lw_g (lw_at lw_m1 60 rfl) rfl
theorem q141 : (Jvm.Cond.initialized "MasterTree$Combined") ∈ lw_all := lw_g (lw_at lw_m1 61 rfl) rfl
theorem q142 : (Jvm.Cond.initialized "MasterTree$Not") ∈ lw_all := lw_g (lw_at lw_m1 62 rfl) rfl
theorem q143 : (Jvm.Cond.initialized "java/util/TreeMap$Values") ∈ lw_all := lw_g (lw_at lw_m1 63 rfl) rfl
theorem q144 : (Jvm.Cond.initialized "java/util/AbstractMap$2") ∈ lw_all := lw_g (lw_at lw_m1 64 rfl) rfl
theorem q145 : (Jvm.Cond.initialized "MasterTree$Following") ∈ lw_all := lw_g (lw_at lw_m1 65 rfl) rfl
theorem q146 : (Jvm.Cond.classLink "MasterTreeLaw" (8 : Nat) "MasterTree") ∈ lw_all := lw_g (lw_at lw_m1 66 rfl) rfl
theorem q147 : (Jvm.Cond.instantiable "MasterTree" (9 : Nat)) ∈ lw_all := lw_g (lw_at lw_m1 67 rfl) rfl
theorem q148 : (Jvm.Cond.methodLink "MasterTreeLaw" (139 : Nat) ({ cls := "MasterTree", name := "<init>", desc := "()V" } : Jvm.MethodName)) ∈ lw_all := lw_g (lw_at lw_m1 68 rfl) rfl
theorem q149 : (Jvm.Cond.instanceMethod ({ cls := "MasterTree", name := "<init>", desc := "()V" } : Jvm.MethodName)) ∈ lw_all := lw_g (lw_at lw_m1 69 rfl) rfl
theorem q150 : (Jvm.Cond.code ({ cls := "MasterTree", name := "<init>", desc := "()V" } : Jvm.MethodName) prog_1_method_4_code (2 : Nat) (Option.none : Option Jvm.ClassFile.FieldType)) ∈ lw_all := lw_g (lw_at lw_m1 70 rfl) rfl
theorem q151 : (Jvm.Cond.methodLink "MasterTree" (44 : Nat) ({ cls := "java/lang/Object", name := "<init>", desc := "()V" } : Jvm.MethodName)) ∈ lw_all := lw_g (lw_at lw_m1 71 rfl) rfl
theorem q152 : (Jvm.Cond.instanceMethod ({ cls := "java/lang/Object", name := "<init>", desc := "()V" } : Jvm.MethodName)) ∈ lw_all := lw_g (lw_at lw_m1 72 rfl) rfl
theorem q153 : (Jvm.Cond.code ({ cls := "java/lang/Object", name := "<init>", desc := "()V" } : Jvm.MethodName) object_method_1_code (1 : Nat) (Option.none : Option Jvm.ClassFile.FieldType)) ∈ lw_all := lw_g (lw_at lw_m1 73 rfl) rfl
theorem q154 : (Jvm.Cond.classLink "MasterTree" (50 : Nat) "java/util/ArrayList") ∈ lw_all := lw_g (lw_at lw_m1 74 rfl) rfl
theorem q155 : (Jvm.Cond.instantiable "java/util/ArrayList" (3 : Nat)) ∈ lw_all := lw_g (lw_at lw_m1 75 rfl) rfl
theorem q156 : (Jvm.Cond.methodLink "MasterTree" (52 : Nat) ({ cls := "java/util/ArrayList", name := "<init>", desc := "()V" } : Jvm.MethodName)) ∈ lw_all := lw_g (lw_at lw_m1 76 rfl) rfl
theorem q157 : (Jvm.Cond.instanceMethod ({ cls := "java/util/ArrayList", name := "<init>", desc := "()V" } : Jvm.MethodName)) ∈ lw_all := lw_g (lw_at lw_m1 77 rfl) rfl
theorem q158 : (Jvm.Cond.code ({ cls := "java/util/ArrayList", name := "<init>", desc := "()V" } : Jvm.MethodName) prog_59_method_2_code (1 : Nat) (Option.none : Option Jvm.ClassFile.FieldType)) ∈ lw_all := lw_g (lw_at lw_m1 78 rfl) rfl
theorem q159 : (Jvm.Cond.methodLink "java/util/ArrayList" (1 : Nat) ({ cls := "java/util/AbstractList", name := "<init>", desc := "()V" } : Jvm.MethodName)) ∈ lw_all := lw_g (lw_at lw_m1 79 rfl) rfl
theorem q160 : (Jvm.Cond.instanceMethod ({ cls := "java/util/AbstractList", name := "<init>", desc := "()V" } : Jvm.MethodName)) ∈ lw_all := lw_g (lw_at lw_m1 80 rfl) rfl
theorem q161 : (Jvm.Cond.code ({ cls := "java/util/AbstractList", name := "<init>", desc := "()V" } : Jvm.MethodName) prog_54_method_1_code (1 : Nat) (Option.none : Option Jvm.ClassFile.FieldType)) ∈ lw_all := lw_g (lw_at lw_m1 81 rfl) rfl
theorem q162 : (Jvm.Cond.methodLink "java/util/AbstractList" (1 : Nat) ({ cls := "java/util/AbstractCollection", name := "<init>", desc := "()V" } : Jvm.MethodName)) ∈ lw_all := lw_g (lw_at lw_m1 82 rfl) rfl
theorem q163 : (Jvm.Cond.instanceMethod ({ cls := "java/util/AbstractCollection", name := "<init>", desc := "()V" } : Jvm.MethodName)) ∈ lw_all := lw_g (lw_at lw_m1 83 rfl) rfl
theorem q164 : (Jvm.Cond.code ({ cls := "java/util/AbstractCollection", name := "<init>", desc := "()V" } : Jvm.MethodName) prog_53_method_1_code (1 : Nat) (Option.none : Option Jvm.ClassFile.FieldType)) ∈ lw_all := lw_g (lw_at lw_m1 84 rfl) rfl
theorem q165 : (Jvm.Cond.methodLink "java/util/AbstractCollection" (1 : Nat) ({ cls := "java/lang/Object", name := "<init>", desc := "()V" } : Jvm.MethodName)) ∈ lw_all := lw_g (lw_at lw_m1 85 rfl) rfl
theorem q166 : (Jvm.Cond.fieldLink "java/util/ArrayList" (39 : Nat) "java/util/ArrayList" "DEFAULTCAPACITY_EMPTY_ELEMENTDATA" "[Ljava/lang/Object;") ∈ lw_all := lw_g (lw_at lw_m1 86 rfl) rfl
theorem q167 : (Jvm.Cond.laysStatic "java/util/ArrayList" "DEFAULTCAPACITY_EMPTY_ELEMENTDATA" "[Ljava/lang/Object;") ∈ lw_tbl := lw_at lw_m1 87 rfl
theorem q168 : (Jvm.Cond.fieldLink "java/util/ArrayList" (9 : Nat) "java/util/ArrayList" "elementData" "[Ljava/lang/Object;") ∈ lw_all := lw_g (lw_at lw_m1 88 rfl) rfl
theorem q169 : (Jvm.Cond.fieldLink "java/util/ArrayList$Itr" (37 : Nat) "java/util/ArrayList" "elementData" "[Ljava/lang/Object;") ∈ lw_all := lw_g (lw_at lw_m1 89 rfl) rfl
theorem q170 : (Jvm.Cond.fieldLinkNest "java/util/ArrayList$Itr" (28 : Nat) "java/util/ArrayList" "size" "I" "java/util/ArrayList") ∈ lw_tbl := lw_at lw_m1 90 rfl
theorem q171 : (Jvm.Cond.fieldLink "java/util/ArrayList" (48 : Nat) "java/util/ArrayList" "size" "I") ∈ lw_all := lw_g (lw_at lw_m1 91 rfl) rfl
theorem q172 : (Jvm.Cond.fieldLink "java/util/AbstractList" (7 : Nat) "java/util/AbstractList" "modCount" "I") ∈ lw_all := lw_g (lw_at lw_m1 92 rfl) rfl
theorem q173 : (Jvm.Cond.fieldLink "java/util/ArrayList$Itr" (17 : Nat) "java/util/ArrayList" "modCount" "I") ∈ lw_all := lw_g (lw_at lw_m1 93 rfl) rfl
theorem q174 : (Jvm.Cond.sameField "java/util/ArrayList" "java/util/AbstractList" "modCount" "I") ∈ lw_all := lw_g (lw_at lw_m1 94 rfl) rfl
theorem q175 : (Jvm.Cond.fieldLink "java/util/ArrayList" (63 : Nat) "java/util/ArrayList" "modCount" "I") ∈ lw_all := lw_g (lw_at lw_m1 95 rfl) rfl
theorem q176 : (Jvm.Cond.lays "java/util/ArrayList" "java/util/ArrayList" "elementData" "[Ljava/lang/Object;") ∈ lw_all := lw_g (lw_at lw_m1 96 rfl) rfl
theorem q177 : (Jvm.Cond.soleField "java/util/ArrayList" "elementData") ∈ lw_all := lw_g (lw_at lw_m1 97 rfl) rfl
theorem q178 : (Jvm.Cond.lays "java/util/ArrayList" "java/util/ArrayList" "size" "I") ∈ lw_all := lw_g (lw_at lw_m1 98 rfl) rfl
theorem q179 : (Jvm.Cond.soleField "java/util/ArrayList" "size") ∈ lw_all := lw_g (lw_at lw_m1 99 rfl) rfl
theorem q180 : (Jvm.Cond.lays "java/util/ArrayList" "java/util/AbstractList" "modCount" "I") ∈ lw_all := lw_g (lw_at lw_m1 100 rfl) rfl
theorem q181 : (Jvm.Cond.soleField "java/util/AbstractList" "modCount") ∈ lw_all := lw_g (lw_at lw_m1 101 rfl) rfl
theorem q182 : (Jvm.Cond.superclass "java/util/ArrayList" "java/util/AbstractList") ∈ lw_all := lw_g (lw_at lw_m1 102 rfl) rfl
theorem q183 : (Jvm.Cond.classLink "MasterTree" (75 : Nat) "MasterTree$Master") ∈ lw_all := lw_g (lw_at lw_m1 103 rfl) rfl
theorem q184 : (Jvm.Cond.instantiable "MasterTree$Master" (12 : Nat)) ∈ lw_all := lw_g (lw_at lw_m1 104 rfl) rfl
theorem q185 : (Jvm.Cond.methodLink "MasterTree" (77 : Nat) ({ cls := "MasterTree$Master", name := "<init>", desc := "(ILjava/util/List;Ljava/util/List;)V" } : Jvm.MethodName)) ∈ lw_all := lw_g (lw_at lw_m1 105 rfl) rfl
theorem q186 : (Jvm.Cond.instanceMethod ({ cls := "MasterTree$Master", name := "<init>", desc := "(ILjava/util/List;Ljava/util/List;)V" } : Jvm.MethodName)) ∈ lw_all := lw_g (lw_at lw_m1 106 rfl) rfl
theorem q187 : (Jvm.Cond.code ({ cls := "MasterTree$Master", name := "<init>", desc := "(ILjava/util/List;Ljava/util/List;)V" } : Jvm.MethodName) prog_21_method_1_code (4 : Nat) (Option.none : Option Jvm.ClassFile.FieldType)) ∈ lw_all := lw_g (lw_at lw_m1 107 rfl) rfl
theorem q188 : (Jvm.Cond.methodLink "MasterTree$Master" (3 : Nat) ({ cls := "java/lang/Object", name := "<init>", desc := "()V" } : Jvm.MethodName)) ∈ lw_all := lw_g (lw_at lw_m1 108 rfl) rfl
theorem q189 : (Jvm.Cond.classLink "MasterTree$Master" (9 : Nat) "java/util/ArrayList") ∈ lw_all := lw_g (lw_at lw_m1 109 rfl) rfl
theorem q190 : (Jvm.Cond.methodLink "MasterTree$Master" (11 : Nat) ({ cls := "java/util/ArrayList", name := "<init>", desc := "()V" } : Jvm.MethodName)) ∈ lw_all := lw_g (lw_at lw_m1 110 rfl) rfl
theorem q191 : (Jvm.Cond.classLink "MasterTree$Master" (18 : Nat) "MasterTree$Entry") ∈ lw_all := lw_g (lw_at lw_m1 111 rfl) rfl
theorem q192 : (Jvm.Cond.arrayOver (Jvm.ClassFile.FieldType.object "MasterTree$Entry")) ∈ lw_tbl := lw_at lw_m1 112 rfl
theorem q193 : (Jvm.Cond.classLink "MasterTree$Master" (28 : Nat) "[[I") ∈ lw_all := lw_g (lw_at lw_m1 113 rfl) rfl
theorem q194 : (Jvm.Cond.arrayOver (Jvm.ClassFile.FieldType.array Jvm.ClassFile.FieldType.int)) ∈ lw_tbl := lw_at lw_m1 114 rfl
theorem q195 : (Jvm.Cond.classLink "MasterTree$Master" (33 : Nat) "java/util/TreeMap") ∈ lw_all := lw_g (lw_at lw_m1 115 rfl) rfl
theorem q196 : (Jvm.Cond.instantiable "java/util/TreeMap" (9 : Nat)) ∈ lw_all := lw_g (lw_at lw_m1 116 rfl) rfl
theorem q197 : (Jvm.Cond.methodLink "MasterTree$Master" (35 : Nat) ({ cls := "java/util/TreeMap", name := "<init>", desc := "()V" } : Jvm.MethodName)) ∈ lw_all := lw_g (lw_at lw_m1 117 rfl) rfl
theorem q198 : (Jvm.Cond.instanceMethod ({ cls := "java/util/TreeMap", name := "<init>", desc := "()V" } : Jvm.MethodName)) ∈ lw_all := lw_g (lw_at lw_m1 118 rfl) rfl
theorem q199 : (Jvm.Cond.code ({ cls := "java/util/TreeMap", name := "<init>", desc := "()V" } : Jvm.MethodName) prog_79_method_1_code (1 : Nat) (Option.none : Option Jvm.ClassFile.FieldType)) ∈ lw_all := lw_g (lw_at lw_m1 119 rfl) rfl
theorem q200 : (Jvm.Cond.methodLink "java/util/TreeMap" (1 : Nat) ({ cls := "java/util/AbstractMap", name := "<init>", desc := "()V" } : Jvm.MethodName)) ∈ lw_all := lw_g (lw_at lw_m1 120 rfl) rfl
theorem q201 : (Jvm.Cond.instanceMethod ({ cls := "java/util/AbstractMap", name := "<init>", desc := "()V" } : Jvm.MethodName)) ∈ lw_all := lw_g (lw_at lw_m1 121 rfl) rfl
theorem q202 : (Jvm.Cond.code ({ cls := "java/util/AbstractMap", name := "<init>", desc := "()V" } : Jvm.MethodName) prog_55_method_1_code (1 : Nat) (Option.none : Option Jvm.ClassFile.FieldType)) ∈ lw_all := lw_g (lw_at lw_m1 122 rfl) rfl
theorem q203 : (Jvm.Cond.methodLink "java/util/AbstractMap" (1 : Nat) ({ cls := "java/lang/Object", name := "<init>", desc := "()V" } : Jvm.MethodName)) ∈ lw_all := lw_g (lw_at lw_m1 123 rfl) rfl
theorem q204 : (Jvm.Cond.fieldLink "java/util/TreeMap" (16 : Nat) "java/util/TreeMap" "comparator" "Ljava/util/Comparator;") ∈ lw_all := lw_g (lw_at lw_m1 124 rfl) rfl
theorem q205 : (Jvm.Cond.fieldLink "java/util/TreeMap" (101 : Nat) "java/util/TreeMap" "root" "Ljava/util/TreeMap$Entry;") ∈ lw_all := lw_g (lw_at lw_m1 125 rfl) rfl
theorem q206 : (Jvm.Cond.fieldLink "java/util/TreeMap" (7 : Nat) "java/util/TreeMap" "size" "I") ∈ lw_all := lw_g (lw_at lw_m1 126 rfl) rfl
theorem q207 : (Jvm.Cond.fieldLink "java/util/TreeMap" (13 : Nat) "java/util/TreeMap" "modCount" "I") ∈ lw_all := lw_g (lw_at lw_m1 127 rfl) rfl
theorem q208 : (Jvm.Cond.fieldLinkNest "java/util/TreeMap$PrivateEntryIterator" (13 : Nat) "java/util/TreeMap" "modCount" "I" "java/util/TreeMap") ∈ lw_tbl := lw_at lw_m1 128 rfl
theorem q209 : (Jvm.Cond.fieldLinkNest "java/util/TreeMap$NavigableSubMap$SubMapIterator" (19 : Nat) "java/util/TreeMap" "modCount" "I" "java/util/TreeMap") ∈ lw_tbl := lw_at lw_m1 129 rfl
theorem q210 : (Jvm.Cond.fieldLinkNest "java/util/TreeMap$NavigableSubMap$EntrySetView" (38 : Nat) "java/util/TreeMap" "modCount" "I" "java/util/TreeMap") ∈ lw_tbl := lw_at lw_m1 130 rfl
theorem q211 : (Jvm.Cond.fieldLink "java/util/TreeMap" (188 : Nat) "java/util/TreeMap" "entrySet" "Ljava/util/TreeMap$EntrySet;") ∈ lw_all := lw_g (lw_at lw_m1 131 rfl) rfl
theorem q212 : (Jvm.Cond.fieldLink "java/util/TreeMap" (191 : Nat) "java/util/TreeMap" "navigableKeySet" "Ljava/util/TreeMap$KeySet;") ∈ lw_all := lw_g (lw_at lw_m1 132 rfl) rfl
theorem q213 : (Jvm.Cond.fieldLink "java/util/AbstractMap" (71 : Nat) "java/util/AbstractMap" "values" "Ljava/util/Collection;") ∈ lw_all := lw_g (lw_at lw_m1 133 rfl) rfl
theorem q214 : (Jvm.Cond.fieldLink "java/util/TreeMap" (233 : Nat) "java/util/TreeMap" "values" "Ljava/util/Collection;") ∈ lw_all := lw_g (lw_at lw_m1 134 rfl) rfl
theorem q215 : (Jvm.Cond.sameField "java/util/TreeMap" "java/util/AbstractMap" "values" "Ljava/util/Collection;") ∈ lw_all := lw_g (lw_at lw_m1 135 rfl) rfl
theorem q216 : (Jvm.Cond.laysFinal "java/util/TreeMap" "java/util/TreeMap" "comparator" "Ljava/util/Comparator;") ∈ lw_all := lw_g (lw_at lw_m1 136 rfl) rfl
theorem q217 : (Jvm.Cond.soleField "java/util/TreeMap" "comparator") ∈ lw_all := lw_g (lw_at lw_m1 137 rfl) rfl
theorem q218 : (Jvm.Cond.lays "java/util/TreeMap" "java/util/TreeMap" "root" "Ljava/util/TreeMap$Entry;") ∈ lw_all := lw_g (lw_at lw_m1 138 rfl) rfl
theorem q219 : (Jvm.Cond.soleField "java/util/TreeMap" "root") ∈ lw_all := lw_g (lw_at lw_m1 139 rfl) rfl
theorem q220 : (Jvm.Cond.lays "java/util/TreeMap" "java/util/TreeMap" "size" "I") ∈ lw_all := lw_g (lw_at lw_m1 140 rfl) rfl
theorem q221 : (Jvm.Cond.soleField "java/util/TreeMap" "size") ∈ lw_all := lw_g (lw_at lw_m1 141 rfl) rfl
theorem q222 : (Jvm.Cond.lays "java/util/TreeMap" "java/util/TreeMap" "modCount" "I") ∈ lw_all := lw_g (lw_at lw_m1 142 rfl) rfl
theorem q223 : (Jvm.Cond.soleField "java/util/TreeMap" "modCount") ∈ lw_all := lw_g (lw_at lw_m1 143 rfl) rfl
theorem q224 : (Jvm.Cond.lays "java/util/TreeMap" "java/util/TreeMap" "entrySet" "Ljava/util/TreeMap$EntrySet;") ∈ lw_all := lw_g (lw_at lw_m1 144 rfl) rfl
theorem q225 : (Jvm.Cond.soleField "java/util/TreeMap" "entrySet") ∈ lw_all := lw_g (lw_at lw_m1 145 rfl) rfl
theorem q226 : (Jvm.Cond.lays "java/util/TreeMap" "java/util/TreeMap" "navigableKeySet" "Ljava/util/TreeMap$KeySet;") ∈ lw_all := lw_g (lw_at lw_m1 146 rfl) rfl
theorem q227 : (Jvm.Cond.soleField "java/util/TreeMap" "navigableKeySet") ∈ lw_all := lw_g (lw_at lw_m1 147 rfl) rfl
theorem q228 : (Jvm.Cond.lays "java/util/TreeMap" "java/util/TreeMap" "descendingMap" "Ljava/util/NavigableMap;") ∈ lw_all := lw_g (lw_at lw_m1 148 rfl) rfl
theorem q229 : (Jvm.Cond.soleField "java/util/TreeMap" "descendingMap") ∈ lw_all := lw_g (lw_at lw_m1 149 rfl) rfl
theorem q230 : (Jvm.Cond.lays "java/util/TreeMap" "java/util/AbstractMap" "keySet" "Ljava/util/Set;") ∈ lw_all := lw_g (lw_at lw_m1 150 rfl) rfl
theorem q231 : (Jvm.Cond.soleField "java/util/AbstractMap" "keySet") ∈ lw_all := lw_g (lw_at lw_m1 151 rfl) rfl
theorem q232 : (Jvm.Cond.lays "java/util/TreeMap" "java/util/AbstractMap" "values" "Ljava/util/Collection;") ∈ lw_all := lw_g (lw_at lw_m1 152 rfl) rfl
theorem q233 : (Jvm.Cond.soleField "java/util/AbstractMap" "values") ∈ lw_all := lw_g (lw_at lw_m1 153 rfl) rfl
theorem q234 : (Jvm.Cond.superclass "java/util/TreeMap" "java/util/AbstractMap") ∈ lw_all := lw_g (lw_at lw_m1 154 rfl) rfl
theorem q235 : (Jvm.Cond.arrayClass Jvm.ClassFile.FieldType.int) ∈ lw_all := lw_g (lw_at lw_m1 155 rfl) rfl
theorem q236 : (Jvm.Cond.instantiable "MasterTree$Entry" (9 : Nat)) ∈ lw_all := lw_g (lw_at lw_m1 156 rfl) rfl
theorem q237 : (Jvm.Cond.methodLink "MasterTree$Master" (54 : Nat) ({ cls := "MasterTree$Entry", name := "<init>", desc := "(ILjava/util/List;)V" } : Jvm.MethodName)) ∈ lw_all := lw_g (lw_at lw_m1 157 rfl) rfl
theorem q238 : (Jvm.Cond.instanceMethod ({ cls := "MasterTree$Entry", name := "<init>", desc := "(ILjava/util/List;)V" } : Jvm.MethodName)) ∈ lw_all := lw_g (lw_at lw_m1 158 rfl) rfl
theorem q239 : (Jvm.Cond.code ({ cls := "MasterTree$Entry", name := "<init>", desc := "(ILjava/util/List;)V" } : Jvm.MethodName) prog_7_method_1_code (3 : Nat) (Option.none : Option Jvm.ClassFile.FieldType)) ∈ lw_all := lw_g (lw_at lw_m1 159 rfl) rfl
theorem q240 : (Jvm.Cond.methodLink "MasterTree$Entry" (3 : Nat) ({ cls := "java/lang/Object", name := "<init>", desc := "()V" } : Jvm.MethodName)) ∈ lw_all := lw_g (lw_at lw_m1 160 rfl) rfl
theorem q241 : (Jvm.Cond.classLink "MasterTree$Entry" (9 : Nat) "java/util/ArrayList") ∈ lw_all := lw_g (lw_at lw_m1 161 rfl) rfl
theorem q242 : (Jvm.Cond.methodLink "MasterTree$Entry" (11 : Nat) ({ cls := "java/util/ArrayList", name := "<init>", desc := "()V" } : Jvm.MethodName)) ∈ lw_all := lw_g (lw_at lw_m1 162 rfl) rfl
theorem q243 : (Jvm.Cond.classLink "MasterTree$Entry" (22 : Nat) "java/util/TreeMap") ∈ lw_all := lw_g (lw_at lw_m1 163 rfl) rfl
theorem q244 : (Jvm.Cond.methodLink "MasterTree$Entry" (24 : Nat) ({ cls := "java/util/TreeMap", name := "<init>", desc := "()V" } : Jvm.MethodName)) ∈ lw_all := lw_g (lw_at lw_m1 164 rfl) rfl
theorem q245 : (Jvm.Cond.fieldLink "MasterTree$Entry" (32 : Nat) "MasterTree$Entry" "number" "I") ∈ lw_all := lw_g (lw_at lw_m1 165 rfl) rfl
theorem q246 : (Jvm.Cond.fieldLinkNest "MasterTree$Master" (64 : Nat) "MasterTree$Entry" "number" "I" "MasterTree") ∈ lw_tbl := lw_at lw_m1 166 rfl
theorem q247 : (Jvm.Cond.fieldLink "MasterTree$Entry" (35 : Nat) "MasterTree$Entry" "attributes" "Ljava/util/List;") ∈ lw_all := lw_g (lw_at lw_m1 167 rfl) rfl
theorem q248 : (Jvm.Cond.fieldLink "MasterTree$Entry" (12 : Nat) "MasterTree$Entry" "changes" "Ljava/util/List;") ∈ lw_all := lw_g (lw_at lw_m1 168 rfl) rfl
theorem q249 : (Jvm.Cond.fieldLinkNest "MasterTree$Master" (149 : Nat) "MasterTree$Entry" "changes" "Ljava/util/List;" "MasterTree") ∈ lw_tbl := lw_at lw_m1 169 rfl
theorem q250 : (Jvm.Cond.fieldLinkNest "MasterTree$Kind$1" (7 : Nat) "MasterTree$Entry" "added" "LMasterTree$Change;" "MasterTree") ∈ lw_tbl := lw_at lw_m1 170 rfl
theorem q251 : (Jvm.Cond.fieldLink "MasterTree$Entry" (38 : Nat) "MasterTree$Entry" "added" "LMasterTree$Change;") ∈ lw_all := lw_g (lw_at lw_m1 171 rfl) rfl
theorem q252 : (Jvm.Cond.fieldLinkNest "MasterTree$ByClass" (39 : Nat) "MasterTree$Entry" "added" "LMasterTree$Change;" "MasterTree") ∈ lw_tbl := lw_at lw_m1 172 rfl
theorem q253 : (Jvm.Cond.fieldLinkNest "MasterTree$Master" (116 : Nat) "MasterTree$Entry" "added" "LMasterTree$Change;" "MasterTree") ∈ lw_tbl := lw_at lw_m1 173 rfl
theorem q254 : (Jvm.Cond.fieldLinkNest "MasterTree" (262 : Nat) "MasterTree$Entry" "added" "LMasterTree$Change;" "MasterTree") ∈ lw_tbl := lw_at lw_m1 174 rfl
theorem q255 : (Jvm.Cond.fieldLinkNest "MasterTree$Kind$9" (7 : Nat) "MasterTree$Entry" "isDeleted" "Z" "MasterTree") ∈ lw_tbl := lw_at lw_m1 175 rfl
theorem q256 : (Jvm.Cond.fieldLink "MasterTree$Entry" (42 : Nat) "MasterTree$Entry" "isDeleted" "Z") ∈ lw_all := lw_g (lw_at lw_m1 176 rfl) rfl
theorem q257 : (Jvm.Cond.fieldLinkNest "MasterTree$Master" (247 : Nat) "MasterTree$Entry" "isDeleted" "Z" "MasterTree") ∈ lw_tbl := lw_at lw_m1 177 rfl
theorem q258 : (Jvm.Cond.fieldLinkNest "MasterTree$Kind$5" (13 : Nat) "MasterTree$Entry" "name" "I" "MasterTree") ∈ lw_tbl := lw_at lw_m1 178 rfl
theorem q259 : (Jvm.Cond.fieldLinkNest "MasterTree$Kind$1" (19 : Nat) "MasterTree$Entry" "name" "I" "MasterTree") ∈ lw_tbl := lw_at lw_m1 179 rfl
theorem q260 : (Jvm.Cond.fieldLink "MasterTree$Entry" (92 : Nat) "MasterTree$Entry" "name" "I") ∈ lw_all := lw_g (lw_at lw_m1 180 rfl) rfl
theorem q261 : (Jvm.Cond.fieldLinkNest "MasterTree$Master" (179 : Nat) "MasterTree$Entry" "name" "I" "MasterTree") ∈ lw_tbl := lw_at lw_m1 181 rfl
theorem q262 : (Jvm.Cond.fieldLinkNest "MasterTree" (324 : Nat) "MasterTree$Entry" "name" "I" "MasterTree") ∈ lw_tbl := lw_at lw_m1 182 rfl
theorem q263 : (Jvm.Cond.fieldLink "MasterTree$Entry" (18 : Nat) "MasterTree$Entry" "link" "I") ∈ lw_all := lw_g (lw_at lw_m1 183 rfl) rfl
theorem q264 : (Jvm.Cond.fieldLinkNest "MasterTree$Kind$6" (13 : Nat) "MasterTree$Entry" "link" "I" "MasterTree") ∈ lw_tbl := lw_at lw_m1 184 rfl
theorem q265 : (Jvm.Cond.fieldLinkNest "MasterTree$Following" (86 : Nat) "MasterTree$Entry" "link" "I" "MasterTree") ∈ lw_tbl := lw_at lw_m1 185 rfl
theorem q266 : (Jvm.Cond.fieldLinkNest "MasterTree" (349 : Nat) "MasterTree$Entry" "link" "I" "MasterTree") ∈ lw_tbl := lw_at lw_m1 186 rfl
theorem q267 : (Jvm.Cond.fieldLink "MasterTree$Entry" (25 : Nat) "MasterTree$Entry" "values" "Ljava/util/TreeMap;") ∈ lw_all := lw_g (lw_at lw_m1 187 rfl) rfl
theorem q268 : (Jvm.Cond.fieldLinkNest "MasterTree$Kind$3" (7 : Nat) "MasterTree$Entry" "values" "Ljava/util/TreeMap;" "MasterTree") ∈ lw_tbl := lw_at lw_m1 188 rfl
theorem q269 : (Jvm.Cond.fieldLinkNest "MasterTree$Master" (65 : Nat) "MasterTree$Entry" "values" "Ljava/util/TreeMap;" "MasterTree") ∈ lw_tbl := lw_at lw_m1 189 rfl
theorem q270 : (Jvm.Cond.fieldLinkNest "MasterTree" (520 : Nat) "MasterTree$Entry" "values" "Ljava/util/TreeMap;" "MasterTree") ∈ lw_tbl := lw_at lw_m1 190 rfl
theorem q271 : (Jvm.Cond.fieldLink "MasterTree$Entry" (29 : Nat) "MasterTree$Entry" "rules" "Ljava/util/TreeMap;") ∈ lw_all := lw_g (lw_at lw_m1 191 rfl) rfl
theorem q272 : (Jvm.Cond.fieldLinkNest "MasterTree$Kind$7" (7 : Nat) "MasterTree$Entry" "rules" "Ljava/util/TreeMap;" "MasterTree") ∈ lw_tbl := lw_at lw_m1 192 rfl
theorem q273 : (Jvm.Cond.fieldLinkNest "MasterTree$Master" (218 : Nat) "MasterTree$Entry" "rules" "Ljava/util/TreeMap;" "MasterTree") ∈ lw_tbl := lw_at lw_m1 193 rfl
theorem q274 : (Jvm.Cond.fieldLinkNest "MasterTree" (507 : Nat) "MasterTree$Entry" "rules" "Ljava/util/TreeMap;" "MasterTree") ∈ lw_tbl := lw_at lw_m1 194 rfl
theorem q275 : (Jvm.Cond.laysFinal "MasterTree$Entry" "MasterTree$Entry" "number" "I") ∈ lw_all := lw_g (lw_at lw_m1 195 rfl) rfl
theorem q276 : (Jvm.Cond.soleField "MasterTree$Entry" "number") ∈ lw_all := lw_g (lw_at lw_m1 196 rfl) rfl
theorem q277 : (Jvm.Cond.laysFinal "MasterTree$Entry" "MasterTree$Entry" "attributes" "Ljava/util/List;") ∈ lw_all := lw_g (lw_at lw_m1 197 rfl) rfl
theorem q278 : (Jvm.Cond.soleField "MasterTree$Entry" "attributes") ∈ lw_all := lw_g (lw_at lw_m1 198 rfl) rfl
theorem q279 : (Jvm.Cond.laysFinal "MasterTree$Entry" "MasterTree$Entry" "changes" "Ljava/util/List;") ∈ lw_all := lw_g (lw_at lw_m1 199 rfl) rfl
theorem q280 : (Jvm.Cond.soleField "MasterTree$Entry" "changes") ∈ lw_all := lw_g (lw_at lw_m1 200 rfl) rfl
theorem q281 : (Jvm.Cond.lays "MasterTree$Entry" "MasterTree$Entry" "added" "LMasterTree$Change;") ∈ lw_all := lw_g (lw_at lw_m1 201 rfl) rfl
theorem q282 : (Jvm.Cond.soleField "MasterTree$Entry" "added") ∈ lw_all := lw_g (lw_at lw_m1 202 rfl) rfl
theorem q283 : (Jvm.Cond.lays "MasterTree$Entry" "MasterTree$Entry" "isDeleted" "Z") ∈ lw_all := lw_g (lw_at lw_m1 203 rfl) rfl
theorem q284 : (Jvm.Cond.soleField "MasterTree$Entry" "isDeleted") ∈ lw_all := lw_g (lw_at lw_m1 204 rfl) rfl
theorem q285 : (Jvm.Cond.lays "MasterTree$Entry" "MasterTree$Entry" "name" "I") ∈ lw_all := lw_g (lw_at lw_m1 205 rfl) rfl
theorem q286 : (Jvm.Cond.soleField "MasterTree$Entry" "name") ∈ lw_all := lw_g (lw_at lw_m1 206 rfl) rfl
theorem q287 : (Jvm.Cond.lays "MasterTree$Entry" "MasterTree$Entry" "link" "I") ∈ lw_all := lw_g (lw_at lw_m1 207 rfl) rfl
theorem q288 : (Jvm.Cond.soleField "MasterTree$Entry" "link") ∈ lw_all := lw_g (lw_at lw_m1 208 rfl) rfl
theorem q289 : (Jvm.Cond.laysFinal "MasterTree$Entry" "MasterTree$Entry" "values" "Ljava/util/TreeMap;") ∈ lw_all := lw_g (lw_at lw_m1 209 rfl) rfl
theorem q290 : (Jvm.Cond.soleField "MasterTree$Entry" "values") ∈ lw_all := lw_g (lw_at lw_m1 210 rfl) rfl
theorem q291 : (Jvm.Cond.laysFinal "MasterTree$Entry" "MasterTree$Entry" "rules" "Ljava/util/TreeMap;") ∈ lw_all := lw_g (lw_at lw_m1 211 rfl) rfl
theorem q292 : (Jvm.Cond.soleField "MasterTree$Entry" "rules") ∈ lw_all := lw_g (lw_at lw_m1 212 rfl) rfl
theorem q293 : (Jvm.Cond.superclass "MasterTree$Entry" "java/lang/Object") ∈ lw_all := lw_g (lw_at lw_m1 213 rfl) rfl
theorem q294 : (Jvm.Cond.arrayClass Jvm.ClassFile.FieldType.long) ∈ lw_all := lw_g (lw_at lw_m1 214 rfl) rfl
theorem q295 : (Jvm.Cond.fieldLink "MasterTree$Master" (44 : Nat) "MasterTree$Master" "number" "I") ∈ lw_all := lw_g (lw_at lw_m1 215 rfl) rfl
theorem q296 : (Jvm.Cond.fieldLinkNest "MasterTree$Following" (79 : Nat) "MasterTree$Master" "number" "I" "MasterTree") ∈ lw_tbl := lw_at lw_m1 216 rfl
theorem q297 : (Jvm.Cond.fieldLinkNest "MasterTree" (125 : Nat) "MasterTree$Master" "number" "I" "MasterTree") ∈ lw_tbl := lw_at lw_m1 217 rfl
theorem q298 : (Jvm.Cond.fieldLink "MasterTree$Master" (48 : Nat) "MasterTree$Master" "attributes" "Ljava/util/List;") ∈ lw_all := lw_g (lw_at lw_m1 218 rfl) rfl
theorem q299 : (Jvm.Cond.fieldLink "MasterTree$Master" (51 : Nat) "MasterTree$Master" "classes" "Ljava/util/List;") ∈ lw_all := lw_g (lw_at lw_m1 219 rfl) rfl
theorem q300 : (Jvm.Cond.fieldLinkNest "MasterTree$ByClass" (13 : Nat) "MasterTree$Master" "classes" "Ljava/util/List;" "MasterTree") ∈ lw_tbl := lw_at lw_m1 220 rfl
theorem q301 : (Jvm.Cond.fieldLinkNest "MasterTree$Following" (33 : Nat) "MasterTree$Master" "user" "I" "MasterTree") ∈ lw_tbl := lw_at lw_m1 221 rfl
theorem q302 : (Jvm.Cond.fieldLinkNest "MasterTree" (189 : Nat) "MasterTree$Master" "user" "I" "MasterTree") ∈ lw_tbl := lw_at lw_m1 222 rfl
theorem q303 : (Jvm.Cond.fieldLink "MasterTree$Master" (132 : Nat) "MasterTree$Master" "stamp" "I") ∈ lw_all := lw_g (lw_at lw_m1 223 rfl) rfl
theorem q304 : (Jvm.Cond.fieldLinkNest "MasterTree" (215 : Nat) "MasterTree$Master" "stamp" "I" "MasterTree") ∈ lw_tbl := lw_at lw_m1 224 rfl
theorem q305 : (Jvm.Cond.fieldLink "MasterTree$Master" (12 : Nat) "MasterTree$Master" "log" "Ljava/util/List;") ∈ lw_all := lw_g (lw_at lw_m1 225 rfl) rfl
theorem q306 : (Jvm.Cond.fieldLinkNest "MasterTree" (378 : Nat) "MasterTree$Master" "log" "Ljava/util/List;" "MasterTree") ∈ lw_tbl := lw_at lw_m1 226 rfl
theorem q307 : (Jvm.Cond.fieldLink "MasterTree$Master" (20 : Nat) "MasterTree$Master" "entries" "[LMasterTree$Entry;") ∈ lw_all := lw_g (lw_at lw_m1 227 rfl) rfl
theorem q308 : (Jvm.Cond.fieldLinkNest "MasterTree$Following" (82 : Nat) "MasterTree$Master" "entries" "[LMasterTree$Entry;" "MasterTree") ∈ lw_tbl := lw_at lw_m1 228 rfl
theorem q309 : (Jvm.Cond.fieldLinkNest "MasterTree" (128 : Nat) "MasterTree$Master" "entries" "[LMasterTree$Entry;" "MasterTree") ∈ lw_tbl := lw_at lw_m1 229 rfl
theorem q310 : (Jvm.Cond.fieldLink "MasterTree$Master" (24 : Nat) "MasterTree$Master" "parents" "[I") ∈ lw_all := lw_g (lw_at lw_m1 230 rfl) rfl
theorem q311 : (Jvm.Cond.fieldLinkNest "MasterTree" (321 : Nat) "MasterTree$Master" "parents" "[I" "MasterTree") ∈ lw_tbl := lw_at lw_m1 231 rfl
theorem q312 : (Jvm.Cond.fieldLink "MasterTree$Master" (30 : Nat) "MasterTree$Master" "known" "[[I") ∈ lw_all := lw_g (lw_at lw_m1 232 rfl) rfl
theorem q313 : (Jvm.Cond.fieldLinkNest "MasterTree" (218 : Nat) "MasterTree$Master" "known" "[[I" "MasterTree") ∈ lw_tbl := lw_at lw_m1 233 rfl
theorem q314 : (Jvm.Cond.fieldLink "MasterTree$Master" (251 : Nat) "MasterTree$Master" "dropped" "J") ∈ lw_all := lw_g (lw_at lw_m1 234 rfl) rfl
theorem q315 : (Jvm.Cond.fieldLinkNest "MasterTree" (388 : Nat) "MasterTree$Master" "dropped" "J" "MasterTree") ∈ lw_tbl := lw_at lw_m1 235 rfl
theorem q316 : (Jvm.Cond.fieldLink "MasterTree$Master" (36 : Nat) "MasterTree$Master" "index" "Ljava/util/TreeMap;") ∈ lw_all := lw_g (lw_at lw_m1 236 rfl) rfl
theorem q317 : (Jvm.Cond.fieldLinkNest "MasterTree$ByValue" (22 : Nat) "MasterTree$Master" "index" "Ljava/util/TreeMap;" "MasterTree") ∈ lw_tbl := lw_at lw_m1 237 rfl
theorem q318 : (Jvm.Cond.fieldLink "MasterTree$Master" (40 : Nat) "MasterTree$Master" "byClass" "[J") ∈ lw_all := lw_g (lw_at lw_m1 238 rfl) rfl
theorem q319 : (Jvm.Cond.fieldLinkNest "MasterTree$ByClass" (35 : Nat) "MasterTree$Master" "byClass" "[J" "MasterTree") ∈ lw_tbl := lw_at lw_m1 239 rfl
theorem q320 : (Jvm.Cond.laysFinal "MasterTree$Master" "MasterTree$Master" "number" "I") ∈ lw_all := lw_g (lw_at lw_m2 0 rfl) rfl
theorem q321 : (Jvm.Cond.soleField "MasterTree$Master" "number") ∈ lw_all := lw_g (lw_at lw_m2 1 rfl) rfl
theorem q322 : (Jvm.Cond.laysFinal "MasterTree$Master" "MasterTree$Master" "attributes" "Ljava/util/List;") ∈ lw_all := lw_g (lw_at lw_m2 2 rfl) rfl
theorem q323 : (Jvm.Cond.soleField "MasterTree$Master" "attributes") ∈ lw_all := lw_g (lw_at lw_m2 3 rfl) rfl
theorem q324 : (Jvm.Cond.laysFinal "MasterTree$Master" "MasterTree$Master" "classes" "Ljava/util/List;") ∈ lw_all := lw_g (lw_at lw_m2 4 rfl) rfl
theorem q325 : (Jvm.Cond.soleField "MasterTree$Master" "classes") ∈ lw_all := lw_g (lw_at lw_m2 5 rfl) rfl
theorem q326 : (Jvm.Cond.lays "MasterTree$Master" "MasterTree$Master" "user" "I") ∈ lw_all := lw_g (lw_at lw_m2 6 rfl) rfl
theorem q327 : (Jvm.Cond.soleField "MasterTree$Master" "user") ∈ lw_all := lw_g (lw_at lw_m2 7 rfl) rfl
theorem q328 : (Jvm.Cond.lays "MasterTree$Master" "MasterTree$Master" "stamp" "I") ∈ lw_all := lw_g (lw_at lw_m2 8 rfl) rfl
theorem q329 : (Jvm.Cond.soleField "MasterTree$Master" "stamp") ∈ lw_all := lw_g (lw_at lw_m2 9 rfl) rfl
theorem q330 : (Jvm.Cond.laysFinal "MasterTree$Master" "MasterTree$Master" "log" "Ljava/util/List;") ∈ lw_all := lw_g (lw_at lw_m2 10 rfl) rfl
theorem q331 : (Jvm.Cond.soleField "MasterTree$Master" "log") ∈ lw_all := lw_g (lw_at lw_m2 11 rfl) rfl
theorem q332 : (Jvm.Cond.laysFinal "MasterTree$Master" "MasterTree$Master" "entries" "[LMasterTree$Entry;") ∈ lw_all := lw_g (lw_at lw_m2 12 rfl) rfl
theorem q333 : (Jvm.Cond.soleField "MasterTree$Master" "entries") ∈ lw_all := lw_g (lw_at lw_m2 13 rfl) rfl
theorem q334 : (Jvm.Cond.laysFinal "MasterTree$Master" "MasterTree$Master" "parents" "[I") ∈ lw_all := lw_g (lw_at lw_m2 14 rfl) rfl
theorem q335 : (Jvm.Cond.soleField "MasterTree$Master" "parents") ∈ lw_all := lw_g (lw_at lw_m2 15 rfl) rfl
theorem q336 : (Jvm.Cond.laysFinal "MasterTree$Master" "MasterTree$Master" "known" "[[I") ∈ lw_all := lw_g (lw_at lw_m2 16 rfl) rfl
theorem q337 : (Jvm.Cond.soleField "MasterTree$Master" "known") ∈ lw_all := lw_g (lw_at lw_m2 17 rfl) rfl
theorem q338 : (Jvm.Cond.lays "MasterTree$Master" "MasterTree$Master" "dropped" "J") ∈ lw_all := lw_g (lw_at lw_m2 18 rfl) rfl
theorem q339 : (Jvm.Cond.soleField "MasterTree$Master" "dropped") ∈ lw_all := lw_g (lw_at lw_m2 19 rfl) rfl
theorem q340 : (Jvm.Cond.laysFinal "MasterTree$Master" "MasterTree$Master" "index" "Ljava/util/TreeMap;") ∈ lw_all := lw_g (lw_at lw_m2 20 rfl) rfl
theorem q341 : (Jvm.Cond.soleField "MasterTree$Master" "index") ∈ lw_all := lw_g (lw_at lw_m2 21 rfl) rfl
theorem q342 : (Jvm.Cond.laysFinal "MasterTree$Master" "MasterTree$Master" "byClass" "[J") ∈ lw_all := lw_g (lw_at lw_m2 22 rfl) rfl
theorem q343 : (Jvm.Cond.soleField "MasterTree$Master" "byClass") ∈ lw_all := lw_g (lw_at lw_m2 23 rfl) rfl
theorem q344 : (Jvm.Cond.superclass "MasterTree$Master" "java/lang/Object") ∈ lw_all := lw_g (lw_at lw_m2 24 rfl) rfl
theorem q345 : (Jvm.Cond.interfaceEntry "MasterTree" (80 : Nat)) ∈ lw_tbl := lw_at lw_m2 25 rfl
theorem q346 : (Jvm.Cond.methodLink "MasterTree" (80 : Nat) ({ cls := "java/util/List", name := "add", desc := "(Ljava/lang/Object;)Z" } : Jvm.MethodName)) ∈ lw_all := lw_g (lw_at lw_m2 26 rfl) rfl
theorem q347 : (Jvm.Cond.interfaceMethod "java/util/List" "java/util/List" "add" "(Ljava/lang/Object;)Z") ∈ lw_tbl := lw_at lw_m2 27 rfl
theorem q348 : (Jvm.Cond.declares ({ cls := "java/util/List", name := "add", desc := "(Ljava/lang/Object;)Z" } : Jvm.MethodName)) ∈ lw_tbl := lw_at lw_m2 28 rfl
theorem q349 : (Jvm.Cond.castable "java/util/ArrayList" "java/util/List") ∈ lw_tbl := lw_at lw_m2 29 rfl
theorem q350 : (Jvm.Cond.selects "java/util/ArrayList" ({ cls := "java/util/List", name := "add", desc := "(Ljava/lang/Object;)Z" } : Jvm.MethodName) ({ cls := "java/util/ArrayList", name := "add", desc := "(Ljava/lang/Object;)Z" } : Jvm.MethodName)) ∈ lw_all := lw_g (lw_at lw_m2 30 rfl) rfl
theorem q351 : (Jvm.Cond.unhidden "java/util/ArrayList" "add" "(Ljava/lang/Object;)Z") ∈ lw_tbl := lw_at lw_m2 31 rfl
theorem q352 : (Jvm.Cond.instanceMethod ({ cls := "java/util/ArrayList", name := "add", desc := "(Ljava/lang/Object;)Z" } : Jvm.MethodName)) ∈ lw_all := lw_g (lw_at lw_m2 32 rfl) rfl
theorem q353 : (Jvm.Cond.publicMethod ({ cls := "java/util/ArrayList", name := "add", desc := "(Ljava/lang/Object;)Z" } : Jvm.MethodName)) ∈ lw_tbl := lw_at lw_m2 33 rfl
theorem q354 : (Jvm.Cond.code ({ cls := "java/util/ArrayList", name := "add", desc := "(Ljava/lang/Object;)Z" } : Jvm.MethodName) prog_59_method_25_code (2 : Nat) (Option.some Jvm.ClassFile.FieldType.boolean)) ∈ lw_all := lw_g (lw_at lw_m2 34 rfl) rfl
theorem q355 : (Jvm.Cond.methodLink "java/util/ArrayList" (131 : Nat) ({ cls := "java/util/ArrayList", name := "add", desc := "(Ljava/lang/Object;[Ljava/lang/Object;I)V" } : Jvm.MethodName)) ∈ lw_all := lw_g (lw_at lw_m2 35 rfl) rfl
theorem q356 : (Jvm.Cond.privateMethod ({ cls := "java/util/ArrayList", name := "add", desc := "(Ljava/lang/Object;[Ljava/lang/Object;I)V" } : Jvm.MethodName)) ∈ lw_tbl := lw_at lw_m2 36 rfl
theorem q357 : (Jvm.Cond.instanceMethod ({ cls := "java/util/ArrayList", name := "add", desc := "(Ljava/lang/Object;[Ljava/lang/Object;I)V" } : Jvm.MethodName)) ∈ lw_all := lw_g (lw_at lw_m2 37 rfl) rfl
theorem q358 : (Jvm.Cond.code ({ cls := "java/util/ArrayList", name := "add", desc := "(Ljava/lang/Object;[Ljava/lang/Object;I)V" } : Jvm.MethodName) prog_59_method_24_code (4 : Nat) (Option.none : Option Jvm.ClassFile.FieldType)) ∈ lw_all := lw_g (lw_at lw_m2 38 rfl) rfl
theorem q359 : (Jvm.Cond.methodLink "java/util/ArrayList" (129 : Nat) ({ cls := "java/util/ArrayList", name := "grow", desc := "()[Ljava/lang/Object;" } : Jvm.MethodName)) ∈ lw_all := lw_g (lw_at lw_m2 39 rfl) rfl
theorem q360 : (Jvm.Cond.privateMethod ({ cls := "java/util/ArrayList", name := "grow", desc := "()[Ljava/lang/Object;" } : Jvm.MethodName)) ∈ lw_tbl := lw_at lw_m2 40 rfl
theorem q361 : (Jvm.Cond.instanceMethod ({ cls := "java/util/ArrayList", name := "grow", desc := "()[Ljava/lang/Object;" } : Jvm.MethodName)) ∈ lw_all := lw_g (lw_at lw_m2 41 rfl) rfl
theorem q362 : (Jvm.Cond.code ({ cls := "java/util/ArrayList", name := "grow", desc := "()[Ljava/lang/Object;" } : Jvm.MethodName) prog_59_method_7_code (1 : Nat) (Option.some (Jvm.ClassFile.FieldType.array (Jvm.ClassFile.FieldType.object "java/lang/Object")))) ∈ lw_all := lw_g (lw_at lw_m2 42 rfl) rfl
theorem q363 : (Jvm.Cond.methodLink "java/util/ArrayList" (69 : Nat) ({ cls := "java/util/ArrayList", name := "grow", desc := "(I)[Ljava/lang/Object;" } : Jvm.MethodName)) ∈ lw_all := lw_g (lw_at lw_m2 43 rfl) rfl
theorem q364 : (Jvm.Cond.privateMethod ({ cls := "java/util/ArrayList", name := "grow", desc := "(I)[Ljava/lang/Object;" } : Jvm.MethodName)) ∈ lw_tbl := lw_at lw_m2 44 rfl
theorem q365 : (Jvm.Cond.instanceMethod ({ cls := "java/util/ArrayList", name := "grow", desc := "(I)[Ljava/lang/Object;" } : Jvm.MethodName)) ∈ lw_all := lw_g (lw_at lw_m2 45 rfl) rfl
theorem q366 : (Jvm.Cond.code ({ cls := "java/util/ArrayList", name := "grow", desc := "(I)[Ljava/lang/Object;" } : Jvm.MethodName) prog_59_method_6_code (4 : Nat) (Option.some (Jvm.ClassFile.FieldType.array (Jvm.ClassFile.FieldType.object "java/lang/Object")))) ∈ lw_all := lw_g (lw_at lw_m2 46 rfl) rfl
theorem q367 : (Jvm.Cond.methodLink "java/util/ArrayList" (73 : Nat) ({ cls := "jdk/internal/util/ArraysSupport", name := "newLength", desc := "(III)I" } : Jvm.MethodName)) ∈ lw_all := lw_g (lw_at lw_m2 47 rfl) rfl
theorem q368 : (Jvm.Cond.static ({ cls := "jdk/internal/util/ArraysSupport", name := "newLength", desc := "(III)I" } : Jvm.MethodName)) ∈ lw_all := lw_g (lw_at lw_m2 48 rfl) rfl
theorem q369 : (Jvm.Cond.code ({ cls := "jdk/internal/util/ArraysSupport", name := "newLength", desc := "(III)I" } : Jvm.MethodName) prog_97_method_27_code (4 : Nat) (Option.some Jvm.ClassFile.FieldType.int)) ∈ lw_all := lw_g (lw_at lw_m2 49 rfl) rfl
theorem q370 : (Jvm.Cond.methodLink "jdk/internal/util/ArraysSupport" (194 : Nat) ({ cls := "java/lang/Math", name := "max", desc := "(II)I" } : Jvm.MethodName)) ∈ lw_all := lw_g (lw_at lw_m2 50 rfl) rfl
theorem q371 : (Jvm.Cond.static ({ cls := "java/lang/Math", name := "max", desc := "(II)I" } : Jvm.MethodName)) ∈ lw_all := lw_g (lw_at lw_m2 51 rfl) rfl
theorem q372 : (Jvm.Cond.code ({ cls := "java/lang/Math", name := "max", desc := "(II)I" } : Jvm.MethodName) prog_42_method_65_code (2 : Nat) (Option.some Jvm.ClassFile.FieldType.int)) ∈ lw_all := lw_g (lw_at lw_m2 52 rfl) rfl
theorem q373 : (Jvm.Cond.constant "jdk/internal/util/ArraysSupport" (200 : Nat) (2147483639 : Int32)) ∈ lw_all := lw_g (lw_at lw_m2 53 rfl) rfl
theorem q374 : (Jvm.Cond.methodLink "jdk/internal/util/ArraysSupport" (201 : Nat) ({ cls := "jdk/internal/util/ArraysSupport", name := "hugeLength", desc := "(II)I" } : Jvm.MethodName)) ∈ lw_all := lw_g (lw_at lw_m2 54 rfl) rfl
theorem q375 : (Jvm.Cond.static ({ cls := "jdk/internal/util/ArraysSupport", name := "hugeLength", desc := "(II)I" } : Jvm.MethodName)) ∈ lw_all := lw_g (lw_at lw_m2 55 rfl) rfl
theorem q376 : (Jvm.Cond.code ({ cls := "jdk/internal/util/ArraysSupport", name := "hugeLength", desc := "(II)I" } : Jvm.MethodName) prog_97_method_28_code (3 : Nat) (Option.some Jvm.ClassFile.FieldType.int)) ∈ lw_all := lw_g (lw_at lw_m2 56 rfl) rfl
theorem q377 : (Jvm.Cond.methodLink "java/util/ArrayList" (66 : Nat) ({ cls := "java/util/Arrays", name := "copyOf", desc := "([Ljava/lang/Object;I)[Ljava/lang/Object;" } : Jvm.MethodName)) ∈ lw_all := lw_g (lw_at lw_m2 57 rfl) rfl
theorem q378 : (Jvm.Cond.static ({ cls := "java/util/Arrays", name := "copyOf", desc := "([Ljava/lang/Object;I)[Ljava/lang/Object;" } : Jvm.MethodName)) ∈ lw_all := lw_g (lw_at lw_m2 58 rfl) rfl
theorem q379 : (Jvm.Cond.code ({ cls := "java/util/Arrays", name := "copyOf", desc := "([Ljava/lang/Object;I)[Ljava/lang/Object;" } : Jvm.MethodName) prog_61_method_119_code (2 : Nat) (Option.some (Jvm.ClassFile.FieldType.array (Jvm.ClassFile.FieldType.object "java/lang/Object")))) ∈ lw_all := lw_g (lw_at lw_m2 59 rfl) rfl
theorem q380 : (Jvm.Cond.methodLink "java/util/Arrays" (86 : Nat) ({ cls := "java/lang/Object", name := "getClass", desc := "()Ljava/lang/Class;" } : Jvm.MethodName)) ∈ lw_all := lw_g (lw_at lw_m2 60 rfl) rfl
theorem q381 : (Jvm.Cond.instanceMethod ({ cls := "java/lang/Object", name := "getClass", desc := "()Ljava/lang/Class;" } : Jvm.MethodName)) ∈ lw_all := lw_g (lw_at lw_m2 61 rfl) rfl
theorem q382 : (Jvm.Cond.sameMethod "java/lang/Object" "java/lang/Object" "getClass" "()Ljava/lang/Class;") ∈ lw_all := lw_g (lw_at lw_m2 62 rfl) rfl
theorem q383 : (Jvm.Cond.selects "MasterTree" ({ cls := "java/lang/Object", name := "getClass", desc := "()Ljava/lang/Class;" } : Jvm.MethodName) ({ cls := "java/lang/Object", name := "getClass", desc := "()Ljava/lang/Class;" } : Jvm.MethodName)) ∈ lw_all := lw_g (lw_at lw_m2 63 rfl) rfl
theorem q384 : (Jvm.Cond.selects "MasterTree$Attribute" ({ cls := "java/lang/Object", name := "getClass", desc := "()Ljava/lang/Class;" } : Jvm.MethodName) ({ cls := "java/lang/Object", name := "getClass", desc := "()Ljava/lang/Class;" } : Jvm.MethodName)) ∈ lw_all := lw_g (lw_at lw_m2 64 rfl) rfl
theorem q385 : (Jvm.Cond.selects "MasterTree$ByClass" ({ cls := "java/lang/Object", name := "getClass", desc := "()Ljava/lang/Class;" } : Jvm.MethodName) ({ cls := "java/lang/Object", name := "getClass", desc := "()Ljava/lang/Class;" } : Jvm.MethodName)) ∈ lw_all := lw_g (lw_at lw_m2 65 rfl) rfl
theorem q386 : (Jvm.Cond.selects "MasterTree$ByValue" ({ cls := "java/lang/Object", name := "getClass", desc := "()Ljava/lang/Class;" } : Jvm.MethodName) ({ cls := "java/lang/Object", name := "getClass", desc := "()Ljava/lang/Class;" } : Jvm.MethodName)) ∈ lw_all := lw_g (lw_at lw_m2 66 rfl) rfl
theorem q387 : (Jvm.Cond.selects "MasterTree$Change" ({ cls := "java/lang/Object", name := "getClass", desc := "()Ljava/lang/Class;" } : Jvm.MethodName) ({ cls := "java/lang/Object", name := "getClass", desc := "()Ljava/lang/Class;" } : Jvm.MethodName)) ∈ lw_all := lw_g (lw_at lw_m2 67 rfl) rfl
theorem q388 : (Jvm.Cond.selects "MasterTree$Combined" ({ cls := "java/lang/Object", name := "getClass", desc := "()Ljava/lang/Class;" } : Jvm.MethodName) ({ cls := "java/lang/Object", name := "getClass", desc := "()Ljava/lang/Class;" } : Jvm.MethodName)) ∈ lw_all := lw_g (lw_at lw_m2 68 rfl) rfl
theorem q389 : (Jvm.Cond.selects "MasterTree$Entry" ({ cls := "java/lang/Object", name := "getClass", desc := "()Ljava/lang/Class;" } : Jvm.MethodName) ({ cls := "java/lang/Object", name := "getClass", desc := "()Ljava/lang/Class;" } : Jvm.MethodName)) ∈ lw_all := lw_g (lw_at lw_m2 69 rfl) rfl
theorem q390 : (Jvm.Cond.selects "MasterTree$Following" ({ cls := "java/lang/Object", name := "getClass", desc := "()Ljava/lang/Class;" } : Jvm.MethodName) ({ cls := "java/lang/Object", name := "getClass", desc := "()Ljava/lang/Class;" } : Jvm.MethodName)) ∈ lw_all := lw_g (lw_at lw_m2 70 rfl) rfl
theorem q391 : (Jvm.Cond.selects "MasterTree$Kind$1" ({ cls := "java/lang/Object", name := "getClass", desc := "()Ljava/lang/Class;" } : Jvm.MethodName) ({ cls := "java/lang/Object", name := "getClass", desc := "()Ljava/lang/Class;" } : Jvm.MethodName)) ∈ lw_all := lw_g (lw_at lw_m2 71 rfl) rfl
theorem q392 : (Jvm.Cond.selects "MasterTree$Kind$2" ({ cls := "java/lang/Object", name := "getClass", desc := "()Ljava/lang/Class;" } : Jvm.MethodName) ({ cls := "java/lang/Object", name := "getClass", desc := "()Ljava/lang/Class;" } : Jvm.MethodName)) ∈ lw_all := lw_g (lw_at lw_m2 72 rfl) rfl
theorem q393 : (Jvm.Cond.selects "MasterTree$Kind$3" ({ cls := "java/lang/Object", name := "getClass", desc := "()Ljava/lang/Class;" } : Jvm.MethodName) ({ cls := "java/lang/Object", name := "getClass", desc := "()Ljava/lang/Class;" } : Jvm.MethodName)) ∈ lw_all := lw_g (lw_at lw_m2 73 rfl) rfl
theorem q394 : (Jvm.Cond.selects "MasterTree$Kind$4" ({ cls := "java/lang/Object", name := "getClass", desc := "()Ljava/lang/Class;" } : Jvm.MethodName) ({ cls := "java/lang/Object", name := "getClass", desc := "()Ljava/lang/Class;" } : Jvm.MethodName)) ∈ lw_all := lw_g (lw_at lw_m2 74 rfl) rfl
theorem q395 : (Jvm.Cond.selects "MasterTree$Kind$5" ({ cls := "java/lang/Object", name := "getClass", desc := "()Ljava/lang/Class;" } : Jvm.MethodName) ({ cls := "java/lang/Object", name := "getClass", desc := "()Ljava/lang/Class;" } : Jvm.MethodName)) ∈ lw_all := lw_g (lw_at lw_m2 75 rfl) rfl
theorem q396 : (Jvm.Cond.selects "MasterTree$Kind$6" ({ cls := "java/lang/Object", name := "getClass", desc := "()Ljava/lang/Class;" } : Jvm.MethodName) ({ cls := "java/lang/Object", name := "getClass", desc := "()Ljava/lang/Class;" } : Jvm.MethodName)) ∈ lw_all := lw_g (lw_at lw_m2 76 rfl) rfl
theorem q397 : (Jvm.Cond.selects "MasterTree$Kind$7" ({ cls := "java/lang/Object", name := "getClass", desc := "()Ljava/lang/Class;" } : Jvm.MethodName) ({ cls := "java/lang/Object", name := "getClass", desc := "()Ljava/lang/Class;" } : Jvm.MethodName)) ∈ lw_all := lw_g (lw_at lw_m2 77 rfl) rfl
theorem q398 : (Jvm.Cond.selects "MasterTree$Kind$8" ({ cls := "java/lang/Object", name := "getClass", desc := "()Ljava/lang/Class;" } : Jvm.MethodName) ({ cls := "java/lang/Object", name := "getClass", desc := "()Ljava/lang/Class;" } : Jvm.MethodName)) ∈ lw_all := lw_g (lw_at lw_m2 78 rfl) rfl
theorem q399 : (Jvm.Cond.selects "MasterTree$Kind$9" ({ cls := "java/lang/Object", name := "getClass", desc := "()Ljava/lang/Class;" } : Jvm.MethodName) ({ cls := "java/lang/Object", name := "getClass", desc := "()Ljava/lang/Class;" } : Jvm.MethodName)) ∈ lw_all := lw_g (lw_at lw_m2 79 rfl) rfl
theorem q400 : (Jvm.Cond.selects "MasterTree$Klass" ({ cls := "java/lang/Object", name := "getClass", desc := "()Ljava/lang/Class;" } : Jvm.MethodName) ({ cls := "java/lang/Object", name := "getClass", desc := "()Ljava/lang/Class;" } : Jvm.MethodName)) ∈ lw_all := lw_g (lw_at lw_m2 80 rfl) rfl
theorem q401 : (Jvm.Cond.selects "MasterTree$Master" ({ cls := "java/lang/Object", name := "getClass", desc := "()Ljava/lang/Class;" } : Jvm.MethodName) ({ cls := "java/lang/Object", name := "getClass", desc := "()Ljava/lang/Class;" } : Jvm.MethodName)) ∈ lw_all := lw_g (lw_at lw_m2 81 rfl) rfl
theorem q402 : (Jvm.Cond.selects "MasterTree$Not" ({ cls := "java/lang/Object", name := "getClass", desc := "()Ljava/lang/Class;" } : Jvm.MethodName) ({ cls := "java/lang/Object", name := "getClass", desc := "()Ljava/lang/Class;" } : Jvm.MethodName)) ∈ lw_all := lw_g (lw_at lw_m2 82 rfl) rfl
theorem q403 : (Jvm.Cond.selects "MasterTreeModel" ({ cls := "java/lang/Object", name := "getClass", desc := "()Ljava/lang/Class;" } : Jvm.MethodName) ({ cls := "java/lang/Object", name := "getClass", desc := "()Ljava/lang/Class;" } : Jvm.MethodName)) ∈ lw_all := lw_g (lw_at lw_m2 83 rfl) rfl
theorem q404 : (Jvm.Cond.selects "java/lang/ArrayIndexOutOfBoundsException" ({ cls := "java/lang/Object", name := "getClass", desc := "()Ljava/lang/Class;" } : Jvm.MethodName) ({ cls := "java/lang/Object", name := "getClass", desc := "()Ljava/lang/Class;" } : Jvm.MethodName)) ∈ lw_all := lw_g (lw_at lw_m2 84 rfl) rfl
theorem q405 : (Jvm.Cond.selects "java/lang/IllegalArgumentException" ({ cls := "java/lang/Object", name := "getClass", desc := "()Ljava/lang/Class;" } : Jvm.MethodName) ({ cls := "java/lang/Object", name := "getClass", desc := "()Ljava/lang/Class;" } : Jvm.MethodName)) ∈ lw_all := lw_g (lw_at lw_m2 85 rfl) rfl
theorem q406 : (Jvm.Cond.selects "java/lang/IllegalStateException" ({ cls := "java/lang/Object", name := "getClass", desc := "()Ljava/lang/Class;" } : Jvm.MethodName) ({ cls := "java/lang/Object", name := "getClass", desc := "()Ljava/lang/Class;" } : Jvm.MethodName)) ∈ lw_all := lw_g (lw_at lw_m2 86 rfl) rfl
theorem q407 : (Jvm.Cond.selects "java/lang/IndexOutOfBoundsException" ({ cls := "java/lang/Object", name := "getClass", desc := "()Ljava/lang/Class;" } : Jvm.MethodName) ({ cls := "java/lang/Object", name := "getClass", desc := "()Ljava/lang/Class;" } : Jvm.MethodName)) ∈ lw_all := lw_g (lw_at lw_m2 87 rfl) rfl
theorem q408 : (Jvm.Cond.selects "java/lang/Integer" ({ cls := "java/lang/Object", name := "getClass", desc := "()Ljava/lang/Class;" } : Jvm.MethodName) ({ cls := "java/lang/Object", name := "getClass", desc := "()Ljava/lang/Class;" } : Jvm.MethodName)) ∈ lw_all := lw_g (lw_at lw_m2 88 rfl) rfl
theorem q409 : (Jvm.Cond.selects "java/lang/Long" ({ cls := "java/lang/Object", name := "getClass", desc := "()Ljava/lang/Class;" } : Jvm.MethodName) ({ cls := "java/lang/Object", name := "getClass", desc := "()Ljava/lang/Class;" } : Jvm.MethodName)) ∈ lw_all := lw_g (lw_at lw_m2 89 rfl) rfl
theorem q410 : (Jvm.Cond.selects "java/lang/String" ({ cls := "java/lang/Object", name := "getClass", desc := "()Ljava/lang/Class;" } : Jvm.MethodName) ({ cls := "java/lang/Object", name := "getClass", desc := "()Ljava/lang/Class;" } : Jvm.MethodName)) ∈ lw_all := lw_g (lw_at lw_m2 90 rfl) rfl
theorem q411 : (Jvm.Cond.selects "java/lang/StringBuilder" ({ cls := "java/lang/Object", name := "getClass", desc := "()Ljava/lang/Class;" } : Jvm.MethodName) ({ cls := "java/lang/Object", name := "getClass", desc := "()Ljava/lang/Class;" } : Jvm.MethodName)) ∈ lw_all := lw_g (lw_at lw_m2 91 rfl) rfl
theorem q412 : (Jvm.Cond.selects "java/util/AbstractMap$2" ({ cls := "java/lang/Object", name := "getClass", desc := "()Ljava/lang/Class;" } : Jvm.MethodName) ({ cls := "java/lang/Object", name := "getClass", desc := "()Ljava/lang/Class;" } : Jvm.MethodName)) ∈ lw_all := lw_g (lw_at lw_m2 92 rfl) rfl
theorem q413 : (Jvm.Cond.selects "java/util/AbstractMap$2$1" ({ cls := "java/lang/Object", name := "getClass", desc := "()Ljava/lang/Class;" } : Jvm.MethodName) ({ cls := "java/lang/Object", name := "getClass", desc := "()Ljava/lang/Class;" } : Jvm.MethodName)) ∈ lw_all := lw_g (lw_at lw_m2 93 rfl) rfl
theorem q414 : (Jvm.Cond.selects "java/util/ArrayList" ({ cls := "java/lang/Object", name := "getClass", desc := "()Ljava/lang/Class;" } : Jvm.MethodName) ({ cls := "java/lang/Object", name := "getClass", desc := "()Ljava/lang/Class;" } : Jvm.MethodName)) ∈ lw_all := lw_g (lw_at lw_m2 94 rfl) rfl
theorem q415 : (Jvm.Cond.selects "java/util/ArrayList$Itr" ({ cls := "java/lang/Object", name := "getClass", desc := "()Ljava/lang/Class;" } : Jvm.MethodName) ({ cls := "java/lang/Object", name := "getClass", desc := "()Ljava/lang/Class;" } : Jvm.MethodName)) ∈ lw_all := lw_g (lw_at lw_m2 95 rfl) rfl
theorem q416 : (Jvm.Cond.selects "java/util/ConcurrentModificationException" ({ cls := "java/lang/Object", name := "getClass", desc := "()Ljava/lang/Class;" } : Jvm.MethodName) ({ cls := "java/lang/Object", name := "getClass", desc := "()Ljava/lang/Class;" } : Jvm.MethodName)) ∈ lw_all := lw_g (lw_at lw_m2 96 rfl) rfl
theorem q417 : (Jvm.Cond.selects "java/util/TreeMap" ({ cls := "java/lang/Object", name := "getClass", desc := "()Ljava/lang/Class;" } : Jvm.MethodName) ({ cls := "java/lang/Object", name := "getClass", desc := "()Ljava/lang/Class;" } : Jvm.MethodName)) ∈ lw_all := lw_g (lw_at lw_m2 97 rfl) rfl
theorem q418 : (Jvm.Cond.selects "java/util/TreeMap$AscendingSubMap" ({ cls := "java/lang/Object", name := "getClass", desc := "()Ljava/lang/Class;" } : Jvm.MethodName) ({ cls := "java/lang/Object", name := "getClass", desc := "()Ljava/lang/Class;" } : Jvm.MethodName)) ∈ lw_all := lw_g (lw_at lw_m2 98 rfl) rfl
theorem q419 : (Jvm.Cond.selects "java/util/TreeMap$AscendingSubMap$AscendingEntrySetView" ({ cls := "java/lang/Object", name := "getClass", desc := "()Ljava/lang/Class;" } : Jvm.MethodName) ({ cls := "java/lang/Object", name := "getClass", desc := "()Ljava/lang/Class;" } : Jvm.MethodName)) ∈ lw_all := lw_g (lw_at lw_m2 99 rfl) rfl
theorem q420 : (Jvm.Cond.selects "java/util/TreeMap$Entry" ({ cls := "java/lang/Object", name := "getClass", desc := "()Ljava/lang/Class;" } : Jvm.MethodName) ({ cls := "java/lang/Object", name := "getClass", desc := "()Ljava/lang/Class;" } : Jvm.MethodName)) ∈ lw_all := lw_g (lw_at lw_m2 100 rfl) rfl
theorem q421 : (Jvm.Cond.selects "java/util/TreeMap$EntryIterator" ({ cls := "java/lang/Object", name := "getClass", desc := "()Ljava/lang/Class;" } : Jvm.MethodName) ({ cls := "java/lang/Object", name := "getClass", desc := "()Ljava/lang/Class;" } : Jvm.MethodName)) ∈ lw_all := lw_g (lw_at lw_m2 101 rfl) rfl
theorem q422 : (Jvm.Cond.selects "java/util/TreeMap$EntrySet" ({ cls := "java/lang/Object", name := "getClass", desc := "()Ljava/lang/Class;" } : Jvm.MethodName) ({ cls := "java/lang/Object", name := "getClass", desc := "()Ljava/lang/Class;" } : Jvm.MethodName)) ∈ lw_all := lw_g (lw_at lw_m2 102 rfl) rfl
theorem q423 : (Jvm.Cond.selects "java/util/TreeMap$KeyIterator" ({ cls := "java/lang/Object", name := "getClass", desc := "()Ljava/lang/Class;" } : Jvm.MethodName) ({ cls := "java/lang/Object", name := "getClass", desc := "()Ljava/lang/Class;" } : Jvm.MethodName)) ∈ lw_all := lw_g (lw_at lw_m2 103 rfl) rfl
theorem q424 : (Jvm.Cond.selects "java/util/TreeMap$KeySet" ({ cls := "java/lang/Object", name := "getClass", desc := "()Ljava/lang/Class;" } : Jvm.MethodName) ({ cls := "java/lang/Object", name := "getClass", desc := "()Ljava/lang/Class;" } : Jvm.MethodName)) ∈ lw_all := lw_g (lw_at lw_m2 104 rfl) rfl
theorem q425 : (Jvm.Cond.selects "java/util/TreeMap$NavigableSubMap$SubMapEntryIterator" ({ cls := "java/lang/Object", name := "getClass", desc := "()Ljava/lang/Class;" } : Jvm.MethodName) ({ cls := "java/lang/Object", name := "getClass", desc := "()Ljava/lang/Class;" } : Jvm.MethodName)) ∈ lw_all := lw_g (lw_at lw_m2 105 rfl) rfl
theorem q426 : (Jvm.Cond.selects "java/util/TreeMap$NavigableSubMap$SubMapKeyIterator" ({ cls := "java/lang/Object", name := "getClass", desc := "()Ljava/lang/Class;" } : Jvm.MethodName) ({ cls := "java/lang/Object", name := "getClass", desc := "()Ljava/lang/Class;" } : Jvm.MethodName)) ∈ lw_all := lw_g (lw_at lw_m2 106 rfl) rfl
theorem q427 : (Jvm.Cond.selects "java/util/TreeMap$ValueIterator" ({ cls := "java/lang/Object", name := "getClass", desc := "()Ljava/lang/Class;" } : Jvm.MethodName) ({ cls := "java/lang/Object", name := "getClass", desc := "()Ljava/lang/Class;" } : Jvm.MethodName)) ∈ lw_all := lw_g (lw_at lw_m2 107 rfl) rfl
theorem q428 : (Jvm.Cond.selects "java/util/TreeMap$Values" ({ cls := "java/lang/Object", name := "getClass", desc := "()Ljava/lang/Class;" } : Jvm.MethodName) ({ cls := "java/lang/Object", name := "getClass", desc := "()Ljava/lang/Class;" } : Jvm.MethodName)) ∈ lw_all := lw_g (lw_at lw_m2 108 rfl) rfl
theorem q429 : (Jvm.Cond.selects "jdk/internal/misc/Unsafe" ({ cls := "java/lang/Object", name := "getClass", desc := "()Ljava/lang/Class;" } : Jvm.MethodName) ({ cls := "java/lang/Object", name := "getClass", desc := "()Ljava/lang/Class;" } : Jvm.MethodName)) ∈ lw_all := lw_g (lw_at lw_m2 109 rfl) rfl
theorem q430 : (Jvm.Cond.native ({ cls := "java/lang/Object", name := "getClass", desc := "()Ljava/lang/Class;" } : Jvm.MethodName)) ∈ lw_all := lw_g (lw_at lw_m2 110 rfl) rfl
theorem q431 : (Jvm.Cond.methodLink "java/util/Arrays" (300 : Nat) ({ cls := "java/util/Arrays", name := "copyOf", desc := "([Ljava/lang/Object;ILjava/lang/Class;)[Ljava/lang/Object;" } : Jvm.MethodName)) ∈ lw_all := lw_g (lw_at lw_m2 111 rfl) rfl
theorem q432 : (Jvm.Cond.static ({ cls := "java/util/Arrays", name := "copyOf", desc := "([Ljava/lang/Object;ILjava/lang/Class;)[Ljava/lang/Object;" } : Jvm.MethodName)) ∈ lw_all := lw_g (lw_at lw_m2 112 rfl) rfl
theorem q433 : (Jvm.Cond.code ({ cls := "java/util/Arrays", name := "copyOf", desc := "([Ljava/lang/Object;ILjava/lang/Class;)[Ljava/lang/Object;" } : Jvm.MethodName) prog_61_method_120_code (4 : Nat) (Option.some (Jvm.ClassFile.FieldType.array (Jvm.ClassFile.FieldType.object "java/lang/Object")))) ∈ lw_all := lw_g (lw_at lw_m2 113 rfl) rfl
theorem q434 : (Jvm.Cond.classLink "java/util/Arrays" (110 : Nat) "[Ljava/lang/Object;") ∈ lw_all := lw_g (lw_at lw_m2 114 rfl) rfl
theorem q435 : (Jvm.Cond.arrayOver (Jvm.ClassFile.FieldType.object "java/lang/Object")) ∈ lw_tbl := lw_at lw_m2 115 rfl
theorem q436 : (Jvm.Cond.classLink "java/util/Arrays" (2 : Nat) "java/lang/Object") ∈ lw_all := lw_g (lw_at lw_m2 116 rfl) rfl
theorem q437 : (Jvm.Cond.methodLink "java/util/Arrays" (304 : Nat) ({ cls := "java/lang/Math", name := "min", desc := "(II)I" } : Jvm.MethodName)) ∈ lw_all := lw_g (lw_at lw_m2 117 rfl) rfl
theorem q438 : (Jvm.Cond.static ({ cls := "java/lang/Math", name := "min", desc := "(II)I" } : Jvm.MethodName)) ∈ lw_all := lw_g (lw_at lw_m2 118 rfl) rfl
theorem q439 : (Jvm.Cond.code ({ cls := "java/lang/Math", name := "min", desc := "(II)I" } : Jvm.MethodName) prog_42_method_69_code (2 : Nat) (Option.some Jvm.ClassFile.FieldType.int)) ∈ lw_all := lw_g (lw_at lw_m2 119 rfl) rfl
theorem q440 : (Jvm.Cond.methodLink "java/util/Arrays" (150 : Nat) ({ cls := "java/lang/System", name := "arraycopy", desc := "(Ljava/lang/Object;ILjava/lang/Object;II)V" } : Jvm.MethodName)) ∈ lw_all := lw_g (lw_at lw_m2 120 rfl) rfl
theorem q441 : (Jvm.Cond.static ({ cls := "java/lang/System", name := "arraycopy", desc := "(Ljava/lang/Object;ILjava/lang/Object;II)V" } : Jvm.MethodName)) ∈ lw_all := lw_g (lw_at lw_m2 121 rfl) rfl
theorem q442 : (Jvm.Cond.native ({ cls := "java/lang/System", name := "arraycopy", desc := "(Ljava/lang/Object;ILjava/lang/Object;II)V" } : Jvm.MethodName)) ∈ lw_all := lw_g (lw_at lw_m2 122 rfl) rfl
theorem q443 : (Jvm.Cond.methodLink "java/util/ArrayList" (79 : Nat) ({ cls := "java/lang/Math", name := "max", desc := "(II)I" } : Jvm.MethodName)) ∈ lw_all := lw_g (lw_at lw_m2 123 rfl) rfl
theorem q444 : (Jvm.Cond.classLink "java/util/ArrayList" (7 : Nat) "java/lang/Object") ∈ lw_all := lw_g (lw_at lw_m2 124 rfl) rfl
theorem q445 : (Jvm.Cond.fieldLink "MasterTree" (53 : Nat) "MasterTree" "attributes" "Ljava/util/List;") ∈ lw_all := lw_g (lw_at lw_m2 125 rfl) rfl
theorem q446 : (Jvm.Cond.fieldLink "MasterTree" (57 : Nat) "MasterTree" "classes" "Ljava/util/List;") ∈ lw_all := lw_g (lw_at lw_m2 126 rfl) rfl
theorem q447 : (Jvm.Cond.fieldLinkNest "MasterTree$Following" (69 : Nat) "MasterTree" "masters" "Ljava/util/List;" "MasterTree") ∈ lw_tbl := lw_at lw_m2 127 rfl
theorem q448 : (Jvm.Cond.fieldLink "MasterTree" (60 : Nat) "MasterTree" "masters" "Ljava/util/List;") ∈ lw_all := lw_g (lw_at lw_m2 128 rfl) rfl
theorem q449 : (Jvm.Cond.fieldLink "MasterTree" (63 : Nat) "MasterTree" "drafted" "Ljava/util/List;") ∈ lw_all := lw_g (lw_at lw_m2 129 rfl) rfl
theorem q450 : (Jvm.Cond.fieldLink "MasterTree" (66 : Nat) "MasterTree" "filters" "Ljava/util/List;") ∈ lw_all := lw_g (lw_at lw_m2 130 rfl) rfl
theorem q451 : (Jvm.Cond.fieldLink "MasterTree" (392 : Nat) "MasterTree" "parts" "I") ∈ lw_all := lw_g (lw_at lw_m2 131 rfl) rfl
theorem q452 : (Jvm.Cond.fieldLink "MasterTree" (69 : Nat) "MasterTree" "entries" "I") ∈ lw_all := lw_g (lw_at lw_m2 132 rfl) rfl
theorem q453 : (Jvm.Cond.fieldLink "MasterTree" (204 : Nat) "MasterTree" "changes" "I") ∈ lw_all := lw_g (lw_at lw_m2 133 rfl) rfl
theorem q454 : (Jvm.Cond.fieldLinkNest "MasterTree$Following" (43 : Nat) "MasterTree" "found" "Ljava/util/List;" "MasterTree") ∈ lw_tbl := lw_at lw_m2 134 rfl
theorem q455 : (Jvm.Cond.fieldLink "MasterTree" (72 : Nat) "MasterTree" "found" "Ljava/util/List;") ∈ lw_all := lw_g (lw_at lw_m2 135 rfl) rfl
theorem q456 : (Jvm.Cond.laysFinal "MasterTree" "MasterTree" "attributes" "Ljava/util/List;") ∈ lw_all := lw_g (lw_at lw_m2 136 rfl) rfl
theorem q457 : (Jvm.Cond.soleField "MasterTree" "attributes") ∈ lw_all := lw_g (lw_at lw_m2 137 rfl) rfl
theorem q458 : (Jvm.Cond.laysFinal "MasterTree" "MasterTree" "classes" "Ljava/util/List;") ∈ lw_all := lw_g (lw_at lw_m2 138 rfl) rfl
theorem q459 : (Jvm.Cond.soleField "MasterTree" "classes") ∈ lw_all := lw_g (lw_at lw_m2 139 rfl) rfl
theorem q460 : (Jvm.Cond.laysFinal "MasterTree" "MasterTree" "masters" "Ljava/util/List;") ∈ lw_all := lw_g (lw_at lw_m2 140 rfl) rfl
theorem q461 : (Jvm.Cond.soleField "MasterTree" "masters") ∈ lw_all := lw_g (lw_at lw_m2 141 rfl) rfl
theorem q462 : (Jvm.Cond.laysFinal "MasterTree" "MasterTree" "drafted" "Ljava/util/List;") ∈ lw_all := lw_g (lw_at lw_m2 142 rfl) rfl
theorem q463 : (Jvm.Cond.soleField "MasterTree" "drafted") ∈ lw_all := lw_g (lw_at lw_m2 143 rfl) rfl
theorem q464 : (Jvm.Cond.laysFinal "MasterTree" "MasterTree" "filters" "Ljava/util/List;") ∈ lw_all := lw_g (lw_at lw_m2 144 rfl) rfl
theorem q465 : (Jvm.Cond.soleField "MasterTree" "filters") ∈ lw_all := lw_g (lw_at lw_m2 145 rfl) rfl
theorem q466 : (Jvm.Cond.lays "MasterTree" "MasterTree" "parts" "I") ∈ lw_all := lw_g (lw_at lw_m2 146 rfl) rfl
theorem q467 : (Jvm.Cond.soleField "MasterTree" "parts") ∈ lw_all := lw_g (lw_at lw_m2 147 rfl) rfl
theorem q468 : (Jvm.Cond.lays "MasterTree" "MasterTree" "entries" "I") ∈ lw_all := lw_g (lw_at lw_m2 148 rfl) rfl
theorem q469 : (Jvm.Cond.soleField "MasterTree" "entries") ∈ lw_all := lw_g (lw_at lw_m2 149 rfl) rfl
theorem q470 : (Jvm.Cond.lays "MasterTree" "MasterTree" "changes" "I") ∈ lw_all := lw_g (lw_at lw_m2 150 rfl) rfl
theorem q471 : (Jvm.Cond.soleField "MasterTree" "changes") ∈ lw_all := lw_g (lw_at lw_m2 151 rfl) rfl
theorem q472 : (Jvm.Cond.laysFinal "MasterTree" "MasterTree" "found" "Ljava/util/List;") ∈ lw_all := lw_g (lw_at lw_m2 152 rfl) rfl
theorem q473 : (Jvm.Cond.soleField "MasterTree" "found") ∈ lw_all := lw_g (lw_at lw_m2 153 rfl) rfl
theorem q474 : (Jvm.Cond.superclass "MasterTree" "java/lang/Object") ∈ lw_all := lw_g (lw_at lw_m2 154 rfl) rfl
theorem q475 : (Jvm.Cond.methodLink "MasterTreeLaw" (163 : Nat) ({ cls := "MasterTree", name := "undraft", desc := "()I" } : Jvm.MethodName)) ∈ lw_all := lw_g (lw_at lw_m2 155 rfl) rfl
theorem q476 : (Jvm.Cond.instanceMethod ({ cls := "MasterTree", name := "undraft", desc := "()I" } : Jvm.MethodName)) ∈ lw_all := lw_g (lw_at lw_m2 156 rfl) rfl
theorem q477 : (Jvm.Cond.selects "MasterTree" ({ cls := "MasterTree", name := "undraft", desc := "()I" } : Jvm.MethodName) ({ cls := "MasterTree", name := "undraft", desc := "()I" } : Jvm.MethodName)) ∈ lw_all := lw_g (lw_at lw_m2 157 rfl) rfl
theorem q478 : (Jvm.Cond.code ({ cls := "MasterTree", name := "undraft", desc := "()I" } : Jvm.MethodName) prog_1_method_18_code (2 : Nat) (Option.some Jvm.ClassFile.FieldType.int)) ∈ lw_all := lw_g (lw_at lw_m2 158 rfl) rfl
theorem q479 : (Jvm.Cond.interfaceEntry "MasterTree" (137 : Nat)) ∈ lw_tbl := lw_at lw_m2 159 rfl
theorem q480 : (Jvm.Cond.methodLink "MasterTree" (137 : Nat) ({ cls := "java/util/List", name := "size", desc := "()I" } : Jvm.MethodName)) ∈ lw_all := lw_g (lw_at lw_m2 160 rfl) rfl
theorem q481 : (Jvm.Cond.interfaceMethod "java/util/List" "java/util/List" "size" "()I") ∈ lw_tbl := lw_at lw_m2 161 rfl
theorem q482 : (Jvm.Cond.declares ({ cls := "java/util/List", name := "size", desc := "()I" } : Jvm.MethodName)) ∈ lw_tbl := lw_at lw_m2 162 rfl
theorem q483 : (Jvm.Cond.selects "java/util/ArrayList" ({ cls := "java/util/List", name := "size", desc := "()I" } : Jvm.MethodName) ({ cls := "java/util/ArrayList", name := "size", desc := "()I" } : Jvm.MethodName)) ∈ lw_all := lw_g (lw_at lw_m2 163 rfl) rfl
theorem q484 : (Jvm.Cond.unhidden "java/util/ArrayList" "size" "()I") ∈ lw_tbl := lw_at lw_m2 164 rfl
theorem q485 : (Jvm.Cond.instanceMethod ({ cls := "java/util/ArrayList", name := "size", desc := "()I" } : Jvm.MethodName)) ∈ lw_all := lw_g (lw_at lw_m2 165 rfl) rfl
theorem q486 : (Jvm.Cond.publicMethod ({ cls := "java/util/ArrayList", name := "size", desc := "()I" } : Jvm.MethodName)) ∈ lw_tbl := lw_at lw_m2 166 rfl
theorem q487 : (Jvm.Cond.code ({ cls := "java/util/ArrayList", name := "size", desc := "()I" } : Jvm.MethodName) prog_59_method_8_code (1 : Nat) (Option.some Jvm.ClassFile.FieldType.int)) ∈ lw_all := lw_g (lw_at lw_m2 167 rfl) rfl
theorem q488 : (Jvm.Cond.interfaceEntry "MasterTree" (201 : Nat)) ∈ lw_tbl := lw_at lw_m2 168 rfl
theorem q489 : (Jvm.Cond.methodLink "MasterTree" (201 : Nat) ({ cls := "java/util/List", name := "clear", desc := "()V" } : Jvm.MethodName)) ∈ lw_all := lw_g (lw_at lw_m2 169 rfl) rfl
theorem q490 : (Jvm.Cond.interfaceMethod "java/util/List" "java/util/List" "clear" "()V") ∈ lw_tbl := lw_at lw_m2 170 rfl
theorem q491 : (Jvm.Cond.declares ({ cls := "java/util/List", name := "clear", desc := "()V" } : Jvm.MethodName)) ∈ lw_tbl := lw_at lw_m2 171 rfl
theorem q492 : (Jvm.Cond.selects "java/util/ArrayList" ({ cls := "java/util/List", name := "clear", desc := "()V" } : Jvm.MethodName) ({ cls := "java/util/ArrayList", name := "clear", desc := "()V" } : Jvm.MethodName)) ∈ lw_all := lw_g (lw_at lw_m2 172 rfl) rfl
theorem q493 : (Jvm.Cond.unhidden "java/util/ArrayList" "clear" "()V") ∈ lw_tbl := lw_at lw_m2 173 rfl
theorem q494 : (Jvm.Cond.instanceMethod ({ cls := "java/util/ArrayList", name := "clear", desc := "()V" } : Jvm.MethodName)) ∈ lw_all := lw_g (lw_at lw_m2 174 rfl) rfl
theorem q495 : (Jvm.Cond.publicMethod ({ cls := "java/util/ArrayList", name := "clear", desc := "()V" } : Jvm.MethodName)) ∈ lw_tbl := lw_at lw_m2 175 rfl
theorem q496 : (Jvm.Cond.code ({ cls := "java/util/ArrayList", name := "clear", desc := "()V" } : Jvm.MethodName) prog_59_method_40_code (4 : Nat) (Option.none : Option Jvm.ClassFile.FieldType)) ∈ lw_all := lw_g (lw_at lw_m2 176 rfl) rfl
theorem q497 : (Jvm.Cond.methodLink "MasterTreeLaw" (223 : Nat) ({ cls := "MasterTree", name := "wipe", desc := "()I" } : Jvm.MethodName)) ∈ lw_all := lw_g (lw_at lw_m2 177 rfl) rfl
theorem q498 : (Jvm.Cond.instanceMethod ({ cls := "MasterTree", name := "wipe", desc := "()I" } : Jvm.MethodName)) ∈ lw_all := lw_g (lw_at lw_m2 178 rfl) rfl
theorem q499 : (Jvm.Cond.selects "MasterTree" ({ cls := "MasterTree", name := "wipe", desc := "()I" } : Jvm.MethodName) ({ cls := "MasterTree", name := "wipe", desc := "()I" } : Jvm.MethodName)) ∈ lw_all := lw_g (lw_at lw_m2 179 rfl) rfl
theorem q500 : (Jvm.Cond.code ({ cls := "MasterTree", name := "wipe", desc := "()I" } : Jvm.MethodName) prog_1_method_43_code (2 : Nat) (Option.some Jvm.ClassFile.FieldType.int)) ∈ lw_all := lw_g (lw_at lw_m2 180 rfl) rfl
theorem q501 : (Jvm.Cond.methodLink "MasterTreeLaw" (143 : Nat) ({ cls := "MasterTreeLaw", name := "attribute", desc := "(LMasterTree;ZZ[J)I" } : Jvm.MethodName)) ∈ lw_all := lw_g (lw_at lw_m2 181 rfl) rfl
theorem q502 : (Jvm.Cond.static ({ cls := "MasterTreeLaw", name := "attribute", desc := "(LMasterTree;ZZ[J)I" } : Jvm.MethodName)) ∈ lw_all := lw_g (lw_at lw_m2 182 rfl) rfl
theorem q503 : (Jvm.Cond.codeWith ({ cls := "MasterTreeLaw", name := "attribute", desc := "(LMasterTree;ZZ[J)I" } : Jvm.MethodName) method_3_code (5 : Nat) (Option.some Jvm.ClassFile.FieldType.int) [((0 : Nat), (10 : Nat), (13 : Nat), (13 : Nat))]) ∈ lw_all := lw_g (lw_at lw_m2 183 rfl) rfl
theorem q504 : (Jvm.Cond.classLink "MasterTreeLaw" (13 : Nat) "java/lang/IllegalStateException") ∈ lw_all := lw_g (lw_at lw_m2 184 rfl) rfl
theorem q505 : (Jvm.Cond.methodLink "MasterTreeLaw" (7 : Nat) ({ cls := "MasterTree", name := "attribute", desc := "(ZZ)I" } : Jvm.MethodName)) ∈ lw_all := lw_g (lw_at lw_m2 185 rfl) rfl
theorem q506 : (Jvm.Cond.instanceMethod ({ cls := "MasterTree", name := "attribute", desc := "(ZZ)I" } : Jvm.MethodName)) ∈ lw_all := lw_g (lw_at lw_m2 186 rfl) rfl
theorem q507 : (Jvm.Cond.selects "MasterTree" ({ cls := "MasterTree", name := "attribute", desc := "(ZZ)I" } : Jvm.MethodName) ({ cls := "MasterTree", name := "attribute", desc := "(ZZ)I" } : Jvm.MethodName)) ∈ lw_all := lw_g (lw_at lw_m2 187 rfl) rfl
theorem q508 : (Jvm.Cond.code ({ cls := "MasterTree", name := "attribute", desc := "(ZZ)I" } : Jvm.MethodName) prog_1_method_14_code (3 : Nat) (Option.some Jvm.ClassFile.FieldType.int)) ∈ lw_all := lw_g (lw_at lw_m2 188 rfl) rfl
theorem q509 : (Jvm.Cond.stringRef "MasterTree" (163 : Nat) "there are too many attributes") ∈ lw_tbl := lw_at lw_m2 189 rfl
theorem q510 : (Jvm.Cond.methodLink "MasterTree" (165 : Nat) ({ cls := "MasterTree", name := "must", desc := "(ZLjava/lang/String;)V" } : Jvm.MethodName)) ∈ lw_all := lw_g (lw_at lw_m2 190 rfl) rfl
theorem q511 : (Jvm.Cond.static ({ cls := "MasterTree", name := "must", desc := "(ZLjava/lang/String;)V" } : Jvm.MethodName)) ∈ lw_all := lw_g (lw_at lw_m2 191 rfl) rfl
theorem q512 : (Jvm.Cond.code ({ cls := "MasterTree", name := "must", desc := "(ZLjava/lang/String;)V" } : Jvm.MethodName) prog_1_method_13_code (2 : Nat) (Option.none : Option Jvm.ClassFile.FieldType)) ∈ lw_all := lw_g (lw_at lw_m2 192 rfl) rfl
theorem q513 : (Jvm.Cond.classLink "MasterTree" (160 : Nat) "java/lang/IllegalStateException") ∈ lw_all := lw_g (lw_at lw_m2 193 rfl) rfl
theorem q514 : (Jvm.Cond.instantiable "java/lang/IllegalStateException" (6 : Nat)) ∈ lw_all := lw_g (lw_at lw_m2 194 rfl) rfl
theorem q515 : (Jvm.Cond.castable "java/lang/IllegalStateException" "java/lang/IllegalStateException") ∈ lw_tbl := lw_at lw_m2 195 rfl
theorem q516 : (Jvm.Cond.declares ({ cls := "java/lang/RuntimeException", name := "<init>", desc := "()V" } : Jvm.MethodName)) ∈ lw_tbl := lw_at lw_m2 196 rfl
theorem q517 : (Jvm.Cond.declares ({ cls := "java/lang/RuntimeException", name := "<init>", desc := "(Ljava/lang/String;)V" } : Jvm.MethodName)) ∈ lw_tbl := lw_at lw_m2 197 rfl
theorem q518 : (Jvm.Cond.declares ({ cls := "java/lang/Exception", name := "<init>", desc := "()V" } : Jvm.MethodName)) ∈ lw_tbl := lw_at lw_m2 198 rfl
theorem q519 : (Jvm.Cond.declares ({ cls := "java/lang/Exception", name := "<init>", desc := "(Ljava/lang/String;)V" } : Jvm.MethodName)) ∈ lw_tbl := lw_at lw_m2 199 rfl
theorem q520 : (Jvm.Cond.declares ({ cls := "java/lang/Throwable", name := "<init>", desc := "()V" } : Jvm.MethodName)) ∈ lw_tbl := lw_at lw_m2 200 rfl
theorem q521 : (Jvm.Cond.declares ({ cls := "java/lang/Throwable", name := "<init>", desc := "(Ljava/lang/String;)V" } : Jvm.MethodName)) ∈ lw_tbl := lw_at lw_m2 201 rfl
theorem q522 : (Jvm.Cond.selects "java/lang/IllegalStateException" ({ cls := "java/lang/Throwable", name := "fillInStackTrace", desc := "(I)Ljava/lang/Throwable;" } : Jvm.MethodName) ({ cls := "java/lang/Throwable", name := "fillInStackTrace", desc := "(I)Ljava/lang/Throwable;" } : Jvm.MethodName)) ∈ lw_all := lw_g (lw_at lw_m2 202 rfl) rfl
theorem q523 : (Jvm.Cond.selects "java/lang/IllegalStateException" ({ cls := "java/lang/Throwable", name := "fillInStackTrace", desc := "()Ljava/lang/Throwable;" } : Jvm.MethodName) ({ cls := "java/lang/Throwable", name := "fillInStackTrace", desc := "()Ljava/lang/Throwable;" } : Jvm.MethodName)) ∈ lw_all := lw_g (lw_at lw_m2 203 rfl) rfl
theorem q524 : (Jvm.Cond.lays "java/lang/IllegalStateException" "java/lang/Throwable" "cause" "Ljava/lang/Throwable;") ∈ lw_all := lw_g (lw_at lw_m2 204 rfl) rfl
theorem q525 : (Jvm.Cond.lays "java/lang/Throwable" "java/lang/Throwable" "cause" "Ljava/lang/Throwable;") ∈ lw_all := lw_g (lw_at lw_m2 205 rfl) rfl
theorem q526 : (Jvm.Cond.lays "java/lang/IllegalStateException" "java/lang/Throwable" "stackTrace" "[Ljava/lang/StackTraceElement;") ∈ lw_all := lw_g (lw_at lw_m2 206 rfl) rfl
theorem q527 : (Jvm.Cond.lays "java/lang/Throwable" "java/lang/Throwable" "stackTrace" "[Ljava/lang/StackTraceElement;") ∈ lw_all := lw_g (lw_at lw_m2 207 rfl) rfl
theorem q528 : (Jvm.Cond.lays "java/lang/IllegalStateException" "java/lang/Throwable" "suppressedExceptions" "Ljava/util/List;") ∈ lw_all := lw_g (lw_at lw_m2 208 rfl) rfl
theorem q529 : (Jvm.Cond.lays "java/lang/Throwable" "java/lang/Throwable" "suppressedExceptions" "Ljava/util/List;") ∈ lw_all := lw_g (lw_at lw_m2 209 rfl) rfl
theorem q530 : (Jvm.Cond.lays "java/lang/IllegalStateException" "java/lang/Throwable" "detailMessage" "Ljava/lang/String;") ∈ lw_all := lw_g (lw_at lw_m2 210 rfl) rfl
theorem q531 : (Jvm.Cond.lays "java/lang/Throwable" "java/lang/Throwable" "detailMessage" "Ljava/lang/String;") ∈ lw_all := lw_g (lw_at lw_m2 211 rfl) rfl
theorem q532 : (Jvm.Cond.lays "java/lang/IllegalStateException" "java/lang/Throwable" "backtrace" "Ljava/lang/Object;") ∈ lw_all := lw_g (lw_at lw_m2 212 rfl) rfl
theorem q533 : (Jvm.Cond.lays "java/lang/Throwable" "java/lang/Throwable" "backtrace" "Ljava/lang/Object;") ∈ lw_all := lw_g (lw_at lw_m2 213 rfl) rfl
theorem q534 : (Jvm.Cond.fieldLink "java/lang/Throwable" (198 : Nat) "java/lang/Throwable" "backtrace" "Ljava/lang/Object;") ∈ lw_all := lw_g (lw_at lw_m2 214 rfl) rfl
theorem q535 : (Jvm.Cond.superclass "java/lang/Throwable" "java/lang/Object") ∈ lw_all := lw_g (lw_at lw_m2 215 rfl) rfl
theorem q536 : (Jvm.Cond.instanceMethod ({ cls := "java/lang/Throwable", name := "<init>", desc := "()V" } : Jvm.MethodName)) ∈ lw_all := lw_g (lw_at lw_m2 216 rfl) rfl
theorem q537 : (Jvm.Cond.code ({ cls := "java/lang/Throwable", name := "<init>", desc := "()V" } : Jvm.MethodName) prog_50_method_1_code (1 : Nat) (Option.none : Option Jvm.ClassFile.FieldType)) ∈ lw_all := lw_g (lw_at lw_m2 217 rfl) rfl
theorem q538 : (Jvm.Cond.methodLink "java/lang/Throwable" (1 : Nat) ({ cls := "java/lang/Object", name := "<init>", desc := "()V" } : Jvm.MethodName)) ∈ lw_all := lw_g (lw_at lw_m2 218 rfl) rfl
theorem q539 : (Jvm.Cond.fieldLink "java/lang/Throwable" (13 : Nat) "java/lang/Throwable" "UNASSIGNED_STACK" "[Ljava/lang/StackTraceElement;") ∈ lw_all := lw_g (lw_at lw_m2 219 rfl) rfl
theorem q540 : (Jvm.Cond.laysStatic "java/lang/Throwable" "UNASSIGNED_STACK" "[Ljava/lang/StackTraceElement;") ∈ lw_tbl := lw_at lw_m2 220 rfl
theorem q541 : (Jvm.Cond.fieldLink "java/lang/Throwable" (20 : Nat) "java/lang/Throwable" "SUPPRESSED_SENTINEL" "Ljava/util/List;") ∈ lw_all := lw_g (lw_at lw_m2 221 rfl) rfl
theorem q542 : (Jvm.Cond.laysStatic "java/lang/Throwable" "SUPPRESSED_SENTINEL" "Ljava/util/List;") ∈ lw_tbl := lw_at lw_m2 222 rfl
theorem q543 : (Jvm.Cond.methodLink "java/lang/Throwable" (27 : Nat) ({ cls := "java/lang/Throwable", name := "fillInStackTrace", desc := "()Ljava/lang/Throwable;" } : Jvm.MethodName)) ∈ lw_all := lw_g (lw_at lw_m2 223 rfl) rfl
theorem q544 : (Jvm.Cond.instanceMethod ({ cls := "java/lang/Throwable", name := "fillInStackTrace", desc := "()Ljava/lang/Throwable;" } : Jvm.MethodName)) ∈ lw_all := lw_g (lw_at lw_m2 224 rfl) rfl
theorem q545 : (Jvm.Cond.sameMethod "java/lang/Throwable" "java/lang/Throwable" "fillInStackTrace" "()Ljava/lang/Throwable;") ∈ lw_all := lw_g (lw_at lw_m2 225 rfl) rfl
theorem q546 : (Jvm.Cond.selects "java/lang/ArrayIndexOutOfBoundsException" ({ cls := "java/lang/Throwable", name := "fillInStackTrace", desc := "()Ljava/lang/Throwable;" } : Jvm.MethodName) ({ cls := "java/lang/Throwable", name := "fillInStackTrace", desc := "()Ljava/lang/Throwable;" } : Jvm.MethodName)) ∈ lw_all := lw_g (lw_at lw_m2 226 rfl) rfl
theorem q547 : (Jvm.Cond.selects "java/lang/IllegalArgumentException" ({ cls := "java/lang/Throwable", name := "fillInStackTrace", desc := "()Ljava/lang/Throwable;" } : Jvm.MethodName) ({ cls := "java/lang/Throwable", name := "fillInStackTrace", desc := "()Ljava/lang/Throwable;" } : Jvm.MethodName)) ∈ lw_all := lw_g (lw_at lw_m2 227 rfl) rfl
theorem q548 : (Jvm.Cond.selects "java/lang/IndexOutOfBoundsException" ({ cls := "java/lang/Throwable", name := "fillInStackTrace", desc := "()Ljava/lang/Throwable;" } : Jvm.MethodName) ({ cls := "java/lang/Throwable", name := "fillInStackTrace", desc := "()Ljava/lang/Throwable;" } : Jvm.MethodName)) ∈ lw_all := lw_g (lw_at lw_m2 228 rfl) rfl
theorem q549 : (Jvm.Cond.selects "java/util/ConcurrentModificationException" ({ cls := "java/lang/Throwable", name := "fillInStackTrace", desc := "()Ljava/lang/Throwable;" } : Jvm.MethodName) ({ cls := "java/lang/Throwable", name := "fillInStackTrace", desc := "()Ljava/lang/Throwable;" } : Jvm.MethodName)) ∈ lw_all := lw_g (lw_at lw_m2 229 rfl) rfl
theorem q550 : (Jvm.Cond.codeSync ({ cls := "java/lang/Throwable", name := "fillInStackTrace", desc := "()Ljava/lang/Throwable;" } : Jvm.MethodName) prog_50_method_18_code (1 : Nat) (Option.some (Jvm.ClassFile.FieldType.object "java/lang/Throwable"))) ∈ lw_all := lw_g (lw_at lw_m2 230 rfl) rfl
theorem q551 : (Jvm.Cond.methodLink "java/lang/Throwable" (202 : Nat) ({ cls := "java/lang/Throwable", name := "fillInStackTrace", desc := "(I)Ljava/lang/Throwable;" } : Jvm.MethodName)) ∈ lw_all := lw_g (lw_at lw_m2 231 rfl) rfl
theorem q552 : (Jvm.Cond.privateMethod ({ cls := "java/lang/Throwable", name := "fillInStackTrace", desc := "(I)Ljava/lang/Throwable;" } : Jvm.MethodName)) ∈ lw_tbl := lw_at lw_m2 232 rfl
theorem q553 : (Jvm.Cond.instanceMethod ({ cls := "java/lang/Throwable", name := "fillInStackTrace", desc := "(I)Ljava/lang/Throwable;" } : Jvm.MethodName)) ∈ lw_all := lw_g (lw_at lw_m2 233 rfl) rfl
theorem q554 : (Jvm.Cond.instantiable "java/lang/Throwable" (6 : Nat)) ∈ lw_all := lw_g (lw_at lw_m2 234 rfl) rfl
theorem q555 : (Jvm.Cond.native ({ cls := "java/lang/Throwable", name := "fillInStackTrace", desc := "(I)Ljava/lang/Throwable;" } : Jvm.MethodName)) ∈ lw_all := lw_g (lw_at lw_m2 235 rfl) rfl
theorem q556 : (Jvm.Cond.methodLink "MasterTree" (162 : Nat) ({ cls := "java/lang/IllegalStateException", name := "<init>", desc := "(Ljava/lang/String;)V" } : Jvm.MethodName)) ∈ lw_all := lw_g (lw_at lw_m2 236 rfl) rfl
theorem q557 : (Jvm.Cond.instanceMethod ({ cls := "java/lang/IllegalStateException", name := "<init>", desc := "(Ljava/lang/String;)V" } : Jvm.MethodName)) ∈ lw_all := lw_g (lw_at lw_m2 237 rfl) rfl
theorem q558 : (Jvm.Cond.code ({ cls := "java/lang/IllegalStateException", name := "<init>", desc := "(Ljava/lang/String;)V" } : Jvm.MethodName) prog_35_method_2_code (2 : Nat) (Option.none : Option Jvm.ClassFile.FieldType)) ∈ lw_all := lw_g (lw_at lw_m2 238 rfl) rfl
theorem q559 : (Jvm.Cond.methodLink "java/lang/IllegalStateException" (7 : Nat) ({ cls := "java/lang/RuntimeException", name := "<init>", desc := "(Ljava/lang/String;)V" } : Jvm.MethodName)) ∈ lw_all := lw_g (lw_at lw_m2 239 rfl) rfl
theorem q560 : (Jvm.Cond.instanceMethod ({ cls := "java/lang/RuntimeException", name := "<init>", desc := "(Ljava/lang/String;)V" } : Jvm.MethodName)) ∈ lw_all := lw_g (lw_at lw_m3 0 rfl) rfl
theorem q561 : (Jvm.Cond.code ({ cls := "java/lang/RuntimeException", name := "<init>", desc := "(Ljava/lang/String;)V" } : Jvm.MethodName) prog_44_method_2_code (2 : Nat) (Option.none : Option Jvm.ClassFile.FieldType)) ∈ lw_all := lw_g (lw_at lw_m3 1 rfl) rfl
theorem q562 : (Jvm.Cond.methodLink "java/lang/RuntimeException" (7 : Nat) ({ cls := "java/lang/Exception", name := "<init>", desc := "(Ljava/lang/String;)V" } : Jvm.MethodName)) ∈ lw_all := lw_g (lw_at lw_m3 2 rfl) rfl
theorem q563 : (Jvm.Cond.instanceMethod ({ cls := "java/lang/Exception", name := "<init>", desc := "(Ljava/lang/String;)V" } : Jvm.MethodName)) ∈ lw_all := lw_g (lw_at lw_m3 3 rfl) rfl
theorem q564 : (Jvm.Cond.code ({ cls := "java/lang/Exception", name := "<init>", desc := "(Ljava/lang/String;)V" } : Jvm.MethodName) prog_33_method_2_code (2 : Nat) (Option.none : Option Jvm.ClassFile.FieldType)) ∈ lw_all := lw_g (lw_at lw_m3 4 rfl) rfl
theorem q565 : (Jvm.Cond.methodLink "java/lang/Exception" (7 : Nat) ({ cls := "java/lang/Throwable", name := "<init>", desc := "(Ljava/lang/String;)V" } : Jvm.MethodName)) ∈ lw_all := lw_g (lw_at lw_m3 5 rfl) rfl
theorem q566 : (Jvm.Cond.instanceMethod ({ cls := "java/lang/Throwable", name := "<init>", desc := "(Ljava/lang/String;)V" } : Jvm.MethodName)) ∈ lw_all := lw_g (lw_at lw_m3 6 rfl) rfl
theorem q567 : (Jvm.Cond.code ({ cls := "java/lang/Throwable", name := "<init>", desc := "(Ljava/lang/String;)V" } : Jvm.MethodName) prog_50_method_2_code (2 : Nat) (Option.none : Option Jvm.ClassFile.FieldType)) ∈ lw_all := lw_g (lw_at lw_m3 7 rfl) rfl
theorem q568 : (Jvm.Cond.fieldLink "java/lang/Throwable" (198 : Nat) "java/lang/Throwable" "backtrace" "Ljava/lang/Object;") ∈ lw_all := lw_g (lw_at lw_m3 8 rfl) rfl
theorem q569 : (Jvm.Cond.fieldLink "java/lang/Throwable" (31 : Nat) "java/lang/Throwable" "detailMessage" "Ljava/lang/String;") ∈ lw_all := lw_g (lw_at lw_m3 9 rfl) rfl
theorem q570 : (Jvm.Cond.fieldLink "java/lang/Throwable" (7 : Nat) "java/lang/Throwable" "cause" "Ljava/lang/Throwable;") ∈ lw_all := lw_g (lw_at lw_m3 10 rfl) rfl
theorem q571 : (Jvm.Cond.fieldLink "java/lang/Throwable" (17 : Nat) "java/lang/Throwable" "stackTrace" "[Ljava/lang/StackTraceElement;") ∈ lw_all := lw_g (lw_at lw_m3 11 rfl) rfl
theorem q572 : (Jvm.Cond.fieldLink "java/lang/Throwable" (24 : Nat) "java/lang/Throwable" "suppressedExceptions" "Ljava/util/List;") ∈ lw_all := lw_g (lw_at lw_m3 12 rfl) rfl
theorem q573 : (Jvm.Cond.soleField "java/lang/Throwable" "backtrace") ∈ lw_all := lw_g (lw_at lw_m3 13 rfl) rfl
theorem q574 : (Jvm.Cond.soleField "java/lang/Throwable" "detailMessage") ∈ lw_all := lw_g (lw_at lw_m3 14 rfl) rfl
theorem q575 : (Jvm.Cond.soleField "java/lang/Throwable" "cause") ∈ lw_all := lw_g (lw_at lw_m3 15 rfl) rfl
theorem q576 : (Jvm.Cond.soleField "java/lang/Throwable" "stackTrace") ∈ lw_all := lw_g (lw_at lw_m3 16 rfl) rfl
theorem q577 : (Jvm.Cond.lays "java/lang/IllegalStateException" "java/lang/Throwable" "depth" "I") ∈ lw_all := lw_g (lw_at lw_m3 17 rfl) rfl
theorem q578 : (Jvm.Cond.soleField "java/lang/Throwable" "depth") ∈ lw_all := lw_g (lw_at lw_m3 18 rfl) rfl
theorem q579 : (Jvm.Cond.soleField "java/lang/Throwable" "suppressedExceptions") ∈ lw_all := lw_g (lw_at lw_m3 19 rfl) rfl
theorem q580 : (Jvm.Cond.superclass "java/lang/IllegalStateException" "java/lang/RuntimeException") ∈ lw_all := lw_g (lw_at lw_m3 20 rfl) rfl
theorem q581 : (Jvm.Cond.arrayClass Jvm.ClassFile.FieldType.byte) ∈ lw_all := lw_g (lw_at lw_m3 21 rfl) rfl
theorem q582 : (Jvm.Cond.classLink "MasterTree" (143 : Nat) "MasterTree$Attribute") ∈ lw_all := lw_g (lw_at lw_m3 22 rfl) rfl
theorem q583 : (Jvm.Cond.instantiable "MasterTree$Attribute" (2 : Nat)) ∈ lw_all := lw_g (lw_at lw_m3 23 rfl) rfl
theorem q584 : (Jvm.Cond.methodLink "MasterTree" (169 : Nat) ({ cls := "MasterTree$Attribute", name := "<init>", desc := "(ZZ)V" } : Jvm.MethodName)) ∈ lw_all := lw_g (lw_at lw_m3 24 rfl) rfl
theorem q585 : (Jvm.Cond.instanceMethod ({ cls := "MasterTree$Attribute", name := "<init>", desc := "(ZZ)V" } : Jvm.MethodName)) ∈ lw_all := lw_g (lw_at lw_m3 25 rfl) rfl
theorem q586 : (Jvm.Cond.code ({ cls := "MasterTree$Attribute", name := "<init>", desc := "(ZZ)V" } : Jvm.MethodName) prog_2_method_1_code (3 : Nat) (Option.none : Option Jvm.ClassFile.FieldType)) ∈ lw_all := lw_g (lw_at lw_m3 26 rfl) rfl
theorem q587 : (Jvm.Cond.methodLink "MasterTree$Attribute" (1 : Nat) ({ cls := "java/lang/Object", name := "<init>", desc := "()V" } : Jvm.MethodName)) ∈ lw_all := lw_g (lw_at lw_m3 27 rfl) rfl
theorem q588 : (Jvm.Cond.fieldLink "MasterTree$Attribute" (7 : Nat) "MasterTree$Attribute" "isSingle" "Z") ∈ lw_all := lw_g (lw_at lw_m3 28 rfl) rfl
theorem q589 : (Jvm.Cond.fieldLinkNest "MasterTree$Entry" (68 : Nat) "MasterTree$Attribute" "isSingle" "Z" "MasterTree") ∈ lw_tbl := lw_at lw_m3 29 rfl
theorem q590 : (Jvm.Cond.fieldLinkNest "MasterTree" (238 : Nat) "MasterTree$Attribute" "isSingle" "Z" "MasterTree") ∈ lw_tbl := lw_at lw_m3 30 rfl
theorem q591 : (Jvm.Cond.fieldLink "MasterTree$Attribute" (13 : Nat) "MasterTree$Attribute" "isByTens" "Z") ∈ lw_all := lw_g (lw_at lw_m3 31 rfl) rfl
theorem q592 : (Jvm.Cond.laysFinal "MasterTree$Attribute" "MasterTree$Attribute" "isSingle" "Z") ∈ lw_all := lw_g (lw_at lw_m3 32 rfl) rfl
theorem q593 : (Jvm.Cond.soleField "MasterTree$Attribute" "isSingle") ∈ lw_all := lw_g (lw_at lw_m3 33 rfl) rfl
theorem q594 : (Jvm.Cond.laysFinal "MasterTree$Attribute" "MasterTree$Attribute" "isByTens" "Z") ∈ lw_all := lw_g (lw_at lw_m3 34 rfl) rfl
theorem q595 : (Jvm.Cond.soleField "MasterTree$Attribute" "isByTens") ∈ lw_all := lw_g (lw_at lw_m3 35 rfl) rfl
theorem q596 : (Jvm.Cond.superclass "MasterTree$Attribute" "java/lang/Object") ∈ lw_all := lw_g (lw_at lw_m3 36 rfl) rfl
theorem q597 : (Jvm.Cond.methodLink "MasterTreeLaw" (152 : Nat) ({ cls := "MasterTreeLaw", name := "objectClass", desc := "(LMasterTree;III[J)I" } : Jvm.MethodName)) ∈ lw_all := lw_g (lw_at lw_m3 37 rfl) rfl
theorem q598 : (Jvm.Cond.static ({ cls := "MasterTreeLaw", name := "objectClass", desc := "(LMasterTree;III[J)I" } : Jvm.MethodName)) ∈ lw_all := lw_g (lw_at lw_m3 38 rfl) rfl
theorem q599 : (Jvm.Cond.codeWith ({ cls := "MasterTreeLaw", name := "objectClass", desc := "(LMasterTree;III[J)I" } : Jvm.MethodName) method_4_code (6 : Nat) (Option.some Jvm.ClassFile.FieldType.int) [((0 : Nat), (12 : Nat), (15 : Nat), (19 : Nat)), ((0 : Nat), (12 : Nat), (19 : Nat), (13 : Nat))]) ∈ lw_all := lw_g (lw_at lw_m3 39 rfl) rfl
theorem q600 : (Jvm.Cond.classLink "MasterTreeLaw" (19 : Nat) "java/lang/IndexOutOfBoundsException") ∈ lw_all := lw_g (lw_at lw_m3 40 rfl) rfl
theorem q601 : (Jvm.Cond.instantiable "java/lang/ArrayIndexOutOfBoundsException" (6 : Nat)) ∈ lw_all := lw_g (lw_at lw_m3 41 rfl) rfl
theorem q602 : (Jvm.Cond.instanceMethod ({ cls := "java/lang/ArrayIndexOutOfBoundsException", name := "<init>", desc := "(Ljava/lang/String;)V" } : Jvm.MethodName)) ∈ lw_all := lw_g (lw_at lw_m3 42 rfl) rfl
theorem q603 : (Jvm.Cond.code ({ cls := "java/lang/ArrayIndexOutOfBoundsException", name := "<init>", desc := "(Ljava/lang/String;)V" } : Jvm.MethodName) prog_28_method_2_code (2 : Nat) (Option.none : Option Jvm.ClassFile.FieldType)) ∈ lw_all := lw_g (lw_at lw_m3 43 rfl) rfl
theorem q604 : (Jvm.Cond.methodLink "java/lang/ArrayIndexOutOfBoundsException" (7 : Nat) ({ cls := "java/lang/IndexOutOfBoundsException", name := "<init>", desc := "(Ljava/lang/String;)V" } : Jvm.MethodName)) ∈ lw_all := lw_g (lw_at lw_m3 44 rfl) rfl
theorem q605 : (Jvm.Cond.instanceMethod ({ cls := "java/lang/IndexOutOfBoundsException", name := "<init>", desc := "(Ljava/lang/String;)V" } : Jvm.MethodName)) ∈ lw_all := lw_g (lw_at lw_m3 45 rfl) rfl
theorem q606 : (Jvm.Cond.code ({ cls := "java/lang/IndexOutOfBoundsException", name := "<init>", desc := "(Ljava/lang/String;)V" } : Jvm.MethodName) prog_36_method_2_code (2 : Nat) (Option.none : Option Jvm.ClassFile.FieldType)) ∈ lw_all := lw_g (lw_at lw_m3 46 rfl) rfl
theorem q607 : (Jvm.Cond.methodLink "java/lang/IndexOutOfBoundsException" (7 : Nat) ({ cls := "java/lang/RuntimeException", name := "<init>", desc := "(Ljava/lang/String;)V" } : Jvm.MethodName)) ∈ lw_all := lw_g (lw_at lw_m3 47 rfl) rfl
theorem q608 : (Jvm.Cond.lays "java/lang/ArrayIndexOutOfBoundsException" "java/lang/Throwable" "backtrace" "Ljava/lang/Object;") ∈ lw_all := lw_g (lw_at lw_m3 48 rfl) rfl
theorem q609 : (Jvm.Cond.lays "java/lang/ArrayIndexOutOfBoundsException" "java/lang/Throwable" "detailMessage" "Ljava/lang/String;") ∈ lw_all := lw_g (lw_at lw_m3 49 rfl) rfl
theorem q610 : (Jvm.Cond.lays "java/lang/ArrayIndexOutOfBoundsException" "java/lang/Throwable" "cause" "Ljava/lang/Throwable;") ∈ lw_all := lw_g (lw_at lw_m3 50 rfl) rfl
theorem q611 : (Jvm.Cond.lays "java/lang/ArrayIndexOutOfBoundsException" "java/lang/Throwable" "stackTrace" "[Ljava/lang/StackTraceElement;") ∈ lw_all := lw_g (lw_at lw_m3 51 rfl) rfl
theorem q612 : (Jvm.Cond.lays "java/lang/ArrayIndexOutOfBoundsException" "java/lang/Throwable" "depth" "I") ∈ lw_all := lw_g (lw_at lw_m3 52 rfl) rfl
theorem q613 : (Jvm.Cond.lays "java/lang/ArrayIndexOutOfBoundsException" "java/lang/Throwable" "suppressedExceptions" "Ljava/util/List;") ∈ lw_all := lw_g (lw_at lw_m3 53 rfl) rfl
theorem q614 : (Jvm.Cond.superclass "java/lang/ArrayIndexOutOfBoundsException" "java/lang/IndexOutOfBoundsException") ∈ lw_all := lw_g (lw_at lw_m3 54 rfl) rfl
theorem q615 : (Jvm.Cond.castable "java/lang/ArrayIndexOutOfBoundsException" "java/lang/ArrayIndexOutOfBoundsException") ∈ lw_tbl := lw_at lw_m3 55 rfl
theorem q616 : (Jvm.Cond.declares ({ cls := "java/lang/IndexOutOfBoundsException", name := "<init>", desc := "()V" } : Jvm.MethodName)) ∈ lw_tbl := lw_at lw_m3 56 rfl
theorem q617 : (Jvm.Cond.declares ({ cls := "java/lang/IndexOutOfBoundsException", name := "<init>", desc := "(Ljava/lang/String;)V" } : Jvm.MethodName)) ∈ lw_tbl := lw_at lw_m3 57 rfl
theorem q618 : (Jvm.Cond.selects "java/lang/ArrayIndexOutOfBoundsException" ({ cls := "java/lang/Throwable", name := "fillInStackTrace", desc := "(I)Ljava/lang/Throwable;" } : Jvm.MethodName) ({ cls := "java/lang/Throwable", name := "fillInStackTrace", desc := "(I)Ljava/lang/Throwable;" } : Jvm.MethodName)) ∈ lw_all := lw_g (lw_at lw_m3 58 rfl) rfl
theorem q619 : (Jvm.Cond.instantiable "java/lang/String" (4 : Nat)) ∈ lw_all := lw_g (lw_at lw_m3 59 rfl) rfl
theorem q620 : (Jvm.Cond.laysFinal "java/lang/String" "java/lang/String" "value" "[B") ∈ lw_all := lw_g (lw_at lw_m3 60 rfl) rfl
theorem q621 : (Jvm.Cond.soleField "java/lang/String" "value") ∈ lw_all := lw_g (lw_at lw_m3 61 rfl) rfl
theorem q622 : (Jvm.Cond.laysFinal "java/lang/String" "java/lang/String" "coder" "B") ∈ lw_all := lw_g (lw_at lw_m3 62 rfl) rfl
theorem q623 : (Jvm.Cond.soleField "java/lang/String" "coder") ∈ lw_all := lw_g (lw_at lw_m3 63 rfl) rfl
theorem q624 : (Jvm.Cond.methodLink "MasterTreeLaw" (15 : Nat) ({ cls := "MasterTree", name := "objectClass", desc := "(III)I" } : Jvm.MethodName)) ∈ lw_all := lw_g (lw_at lw_m3 64 rfl) rfl
theorem q625 : (Jvm.Cond.instanceMethod ({ cls := "MasterTree", name := "objectClass", desc := "(III)I" } : Jvm.MethodName)) ∈ lw_all := lw_g (lw_at lw_m3 65 rfl) rfl
theorem q626 : (Jvm.Cond.selects "MasterTree" ({ cls := "MasterTree", name := "objectClass", desc := "(III)I" } : Jvm.MethodName) ({ cls := "MasterTree", name := "objectClass", desc := "(III)I" } : Jvm.MethodName)) ∈ lw_all := lw_g (lw_at lw_m3 66 rfl) rfl
theorem q627 : (Jvm.Cond.code ({ cls := "MasterTree", name := "objectClass", desc := "(III)I" } : Jvm.MethodName) prog_1_method_15_code (5 : Nat) (Option.some Jvm.ClassFile.FieldType.int)) ∈ lw_all := lw_g (lw_at lw_m3 67 rfl) rfl
theorem q628 : (Jvm.Cond.methodLink "MasterTree" (172 : Nat) ({ cls := "MasterTree", name := "klassAt", desc := "(I)LMasterTree$Klass;" } : Jvm.MethodName)) ∈ lw_all := lw_g (lw_at lw_m3 68 rfl) rfl
theorem q629 : (Jvm.Cond.privateMethod ({ cls := "MasterTree", name := "klassAt", desc := "(I)LMasterTree$Klass;" } : Jvm.MethodName)) ∈ lw_tbl := lw_at lw_m3 69 rfl
theorem q630 : (Jvm.Cond.instanceMethod ({ cls := "MasterTree", name := "klassAt", desc := "(I)LMasterTree$Klass;" } : Jvm.MethodName)) ∈ lw_all := lw_g (lw_at lw_m3 70 rfl) rfl
theorem q631 : (Jvm.Cond.code ({ cls := "MasterTree", name := "klassAt", desc := "(I)LMasterTree$Klass;" } : Jvm.MethodName) prog_1_method_10_code (2 : Nat) (Option.some (Jvm.ClassFile.FieldType.object "MasterTree$Klass"))) ∈ lw_all := lw_g (lw_at lw_m3 71 rfl) rfl
theorem q632 : (Jvm.Cond.stringRef "MasterTree" (145 : Nat) "class") ∈ lw_tbl := lw_at lw_m3 72 rfl
theorem q633 : (Jvm.Cond.methodLink "MasterTree" (109 : Nat) ({ cls := "MasterTree", name := "place", desc := "(IILjava/lang/String;)I" } : Jvm.MethodName)) ∈ lw_all := lw_g (lw_at lw_m3 73 rfl) rfl
theorem q634 : (Jvm.Cond.static ({ cls := "MasterTree", name := "place", desc := "(IILjava/lang/String;)I" } : Jvm.MethodName)) ∈ lw_all := lw_g (lw_at lw_m3 74 rfl) rfl
theorem q635 : (Jvm.Cond.code ({ cls := "MasterTree", name := "place", desc := "(IILjava/lang/String;)I" } : Jvm.MethodName) prog_1_method_5_code (3 : Nat) (Option.some Jvm.ClassFile.FieldType.int)) ∈ lw_all := lw_g (lw_at lw_m3 75 rfl) rfl
theorem q636 : (Jvm.Cond.classLink "MasterTree" (84 : Nat) "java/lang/IndexOutOfBoundsException") ∈ lw_all := lw_g (lw_at lw_m3 76 rfl) rfl
theorem q637 : (Jvm.Cond.instantiable "java/lang/IndexOutOfBoundsException" (6 : Nat)) ∈ lw_all := lw_g (lw_at lw_m3 77 rfl) rfl
theorem q638 : (Jvm.Cond.castable "java/lang/IndexOutOfBoundsException" "java/lang/IndexOutOfBoundsException") ∈ lw_tbl := lw_at lw_m3 78 rfl
theorem q639 : (Jvm.Cond.selects "java/lang/IndexOutOfBoundsException" ({ cls := "java/lang/Throwable", name := "fillInStackTrace", desc := "(I)Ljava/lang/Throwable;" } : Jvm.MethodName) ({ cls := "java/lang/Throwable", name := "fillInStackTrace", desc := "(I)Ljava/lang/Throwable;" } : Jvm.MethodName)) ∈ lw_all := lw_g (lw_at lw_m3 79 rfl) rfl
theorem q640 : (Jvm.Cond.lays "java/lang/IndexOutOfBoundsException" "java/lang/Throwable" "cause" "Ljava/lang/Throwable;") ∈ lw_all := lw_g (lw_at lw_m3 80 rfl) rfl
theorem q641 : (Jvm.Cond.lays "java/lang/IndexOutOfBoundsException" "java/lang/Throwable" "stackTrace" "[Ljava/lang/StackTraceElement;") ∈ lw_all := lw_g (lw_at lw_m3 81 rfl) rfl
theorem q642 : (Jvm.Cond.lays "java/lang/IndexOutOfBoundsException" "java/lang/Throwable" "suppressedExceptions" "Ljava/util/List;") ∈ lw_all := lw_g (lw_at lw_m3 82 rfl) rfl
theorem q643 : (Jvm.Cond.lays "java/lang/IndexOutOfBoundsException" "java/lang/Throwable" "detailMessage" "Ljava/lang/String;") ∈ lw_all := lw_g (lw_at lw_m3 83 rfl) rfl
theorem q644 : (Jvm.Cond.lays "java/lang/IndexOutOfBoundsException" "java/lang/Throwable" "backtrace" "Ljava/lang/Object;") ∈ lw_all := lw_g (lw_at lw_m3 84 rfl) rfl
theorem q645 : (Jvm.Cond.classLink "MasterTree" (86 : Nat) "java/lang/StringBuilder") ∈ lw_all := lw_g (lw_at lw_m3 85 rfl) rfl
theorem q646 : (Jvm.Cond.instantiable "java/lang/StringBuilder" (4 : Nat)) ∈ lw_all := lw_g (lw_at lw_m3 86 rfl) rfl
theorem q647 : (Jvm.Cond.methodLink "MasterTree" (88 : Nat) ({ cls := "java/lang/StringBuilder", name := "<init>", desc := "()V" } : Jvm.MethodName)) ∈ lw_all := lw_g (lw_at lw_m3 87 rfl) rfl
theorem q648 : (Jvm.Cond.instanceMethod ({ cls := "java/lang/StringBuilder", name := "<init>", desc := "()V" } : Jvm.MethodName)) ∈ lw_all := lw_g (lw_at lw_m3 88 rfl) rfl
theorem q649 : (Jvm.Cond.code ({ cls := "java/lang/StringBuilder", name := "<init>", desc := "()V" } : Jvm.MethodName) prog_46_method_1_code (1 : Nat) (Option.none : Option Jvm.ClassFile.FieldType)) ∈ lw_all := lw_g (lw_at lw_m3 89 rfl) rfl
theorem q650 : (Jvm.Cond.methodLink "java/lang/StringBuilder" (1 : Nat) ({ cls := "java/lang/AbstractStringBuilder", name := "<init>", desc := "(I)V" } : Jvm.MethodName)) ∈ lw_all := lw_g (lw_at lw_m3 90 rfl) rfl
theorem q651 : (Jvm.Cond.instanceMethod ({ cls := "java/lang/AbstractStringBuilder", name := "<init>", desc := "(I)V" } : Jvm.MethodName)) ∈ lw_all := lw_g (lw_at lw_m3 91 rfl) rfl
theorem q652 : (Jvm.Cond.code ({ cls := "java/lang/AbstractStringBuilder", name := "<init>", desc := "(I)V" } : Jvm.MethodName) prog_26_method_2_code (2 : Nat) (Option.none : Option Jvm.ClassFile.FieldType)) ∈ lw_all := lw_g (lw_at lw_m3 92 rfl) rfl
theorem q653 : (Jvm.Cond.methodLink "java/lang/AbstractStringBuilder" (3 : Nat) ({ cls := "java/lang/Object", name := "<init>", desc := "()V" } : Jvm.MethodName)) ∈ lw_all := lw_g (lw_at lw_m3 93 rfl) rfl
theorem q654 : (Jvm.Cond.fieldLink "java/lang/AbstractStringBuilder" (18 : Nat) "java/lang/String" "COMPACT_STRINGS" "Z") ∈ lw_all := lw_g (lw_at lw_m3 94 rfl) rfl
theorem q655 : (Jvm.Cond.laysStatic "java/lang/String" "COMPACT_STRINGS" "Z") ∈ lw_tbl := lw_at lw_m3 95 rfl
theorem q656 : (Jvm.Cond.methodLink "java/lang/AbstractStringBuilder" (26 : Nat) ({ cls := "java/lang/StringUTF16", name := "newBytesFor", desc := "(I)[B" } : Jvm.MethodName)) ∈ lw_all := lw_g (lw_at lw_m3 96 rfl) rfl
theorem q657 : (Jvm.Cond.static ({ cls := "java/lang/StringUTF16", name := "newBytesFor", desc := "(I)[B" } : Jvm.MethodName)) ∈ lw_all := lw_g (lw_at lw_m3 97 rfl) rfl
theorem q658 : (Jvm.Cond.code ({ cls := "java/lang/StringUTF16", name := "newBytesFor", desc := "(I)[B" } : Jvm.MethodName) prog_48_method_2_code (1 : Nat) (Option.some (Jvm.ClassFile.FieldType.array Jvm.ClassFile.FieldType.byte))) ∈ lw_all := lw_g (lw_at lw_m3 98 rfl) rfl
theorem q659 : (Jvm.Cond.methodLink "java/lang/StringUTF16" (11 : Nat) ({ cls := "java/lang/StringUTF16", name := "newBytesLength", desc := "(I)I" } : Jvm.MethodName)) ∈ lw_all := lw_g (lw_at lw_m3 99 rfl) rfl
theorem q660 : (Jvm.Cond.static ({ cls := "java/lang/StringUTF16", name := "newBytesLength", desc := "(I)I" } : Jvm.MethodName)) ∈ lw_all := lw_g (lw_at lw_m3 100 rfl) rfl
theorem q661 : (Jvm.Cond.code ({ cls := "java/lang/StringUTF16", name := "newBytesLength", desc := "(I)I" } : Jvm.MethodName) prog_48_method_3_code (1 : Nat) (Option.some Jvm.ClassFile.FieldType.int)) ∈ lw_all := lw_g (lw_at lw_m3 101 rfl) rfl
theorem q662 : (Jvm.Cond.constant "java/lang/StringUTF16" (20 : Nat) (1073741823 : Int32)) ∈ lw_all := lw_g (lw_at lw_m3 102 rfl) rfl
theorem q663 : (Jvm.Cond.fieldLink "java/lang/AbstractStringBuilder" (15 : Nat) "java/lang/AbstractStringBuilder" "value" "[B") ∈ lw_all := lw_g (lw_at lw_m3 103 rfl) rfl
theorem q664 : (Jvm.Cond.fieldLink "java/lang/AbstractStringBuilder" (22 : Nat) "java/lang/AbstractStringBuilder" "coder" "B") ∈ lw_all := lw_g (lw_at lw_m3 104 rfl) rfl
theorem q665 : (Jvm.Cond.fieldLink "java/lang/String" (1048 : Nat) "java/lang/AbstractStringBuilder" "maybeLatin1" "Z") ∈ lw_all := lw_g (lw_at lw_m3 105 rfl) rfl
theorem q666 : (Jvm.Cond.fieldLink "java/lang/AbstractStringBuilder" (79 : Nat) "java/lang/AbstractStringBuilder" "count" "I") ∈ lw_all := lw_g (lw_at lw_m3 106 rfl) rfl
theorem q667 : (Jvm.Cond.lays "java/lang/StringBuilder" "java/lang/AbstractStringBuilder" "value" "[B") ∈ lw_all := lw_g (lw_at lw_m3 107 rfl) rfl
theorem q668 : (Jvm.Cond.soleField "java/lang/AbstractStringBuilder" "value") ∈ lw_all := lw_g (lw_at lw_m3 108 rfl) rfl
theorem q669 : (Jvm.Cond.lays "java/lang/StringBuilder" "java/lang/AbstractStringBuilder" "coder" "B") ∈ lw_all := lw_g (lw_at lw_m3 109 rfl) rfl
theorem q670 : (Jvm.Cond.soleField "java/lang/AbstractStringBuilder" "coder") ∈ lw_all := lw_g (lw_at lw_m3 110 rfl) rfl
theorem q671 : (Jvm.Cond.lays "java/lang/StringBuilder" "java/lang/AbstractStringBuilder" "maybeLatin1" "Z") ∈ lw_all := lw_g (lw_at lw_m3 111 rfl) rfl
theorem q672 : (Jvm.Cond.soleField "java/lang/AbstractStringBuilder" "maybeLatin1") ∈ lw_all := lw_g (lw_at lw_m3 112 rfl) rfl
theorem q673 : (Jvm.Cond.lays "java/lang/StringBuilder" "java/lang/AbstractStringBuilder" "count" "I") ∈ lw_all := lw_g (lw_at lw_m3 113 rfl) rfl
theorem q674 : (Jvm.Cond.soleField "java/lang/AbstractStringBuilder" "count") ∈ lw_all := lw_g (lw_at lw_m3 114 rfl) rfl
theorem q675 : (Jvm.Cond.superclass "java/lang/StringBuilder" "java/lang/AbstractStringBuilder") ∈ lw_all := lw_g (lw_at lw_m3 115 rfl) rfl
theorem q676 : (Jvm.Cond.stringRef "MasterTree" (89 : Nat) "no ") ∈ lw_tbl := lw_at lw_m3 116 rfl
theorem q677 : (Jvm.Cond.methodLink "MasterTree" (91 : Nat) ({ cls := "java/lang/StringBuilder", name := "append", desc := "(Ljava/lang/String;)Ljava/lang/StringBuilder;" } : Jvm.MethodName)) ∈ lw_all := lw_g (lw_at lw_m3 117 rfl) rfl
theorem q678 : (Jvm.Cond.instanceMethod ({ cls := "java/lang/StringBuilder", name := "append", desc := "(Ljava/lang/String;)Ljava/lang/StringBuilder;" } : Jvm.MethodName)) ∈ lw_all := lw_g (lw_at lw_m3 118 rfl) rfl
theorem q679 : (Jvm.Cond.selects "java/lang/StringBuilder" ({ cls := "java/lang/StringBuilder", name := "append", desc := "(Ljava/lang/String;)Ljava/lang/StringBuilder;" } : Jvm.MethodName) ({ cls := "java/lang/StringBuilder", name := "append", desc := "(Ljava/lang/String;)Ljava/lang/StringBuilder;" } : Jvm.MethodName)) ∈ lw_all := lw_g (lw_at lw_m3 119 rfl) rfl
theorem q680 : (Jvm.Cond.code ({ cls := "java/lang/StringBuilder", name := "append", desc := "(Ljava/lang/String;)Ljava/lang/StringBuilder;" } : Jvm.MethodName) prog_46_method_7_code (2 : Nat) (Option.some (Jvm.ClassFile.FieldType.object "java/lang/StringBuilder"))) ∈ lw_all := lw_g (lw_at lw_m3 120 rfl) rfl
theorem q681 : (Jvm.Cond.methodLink "java/lang/StringBuilder" (29 : Nat) ({ cls := "java/lang/AbstractStringBuilder", name := "append", desc := "(Ljava/lang/String;)Ljava/lang/AbstractStringBuilder;" } : Jvm.MethodName)) ∈ lw_all := lw_g (lw_at lw_m3 121 rfl) rfl
theorem q682 : (Jvm.Cond.instanceMethod ({ cls := "java/lang/AbstractStringBuilder", name := "append", desc := "(Ljava/lang/String;)Ljava/lang/AbstractStringBuilder;" } : Jvm.MethodName)) ∈ lw_all := lw_g (lw_at lw_m3 122 rfl) rfl
theorem q683 : (Jvm.Cond.code ({ cls := "java/lang/AbstractStringBuilder", name := "append", desc := "(Ljava/lang/String;)Ljava/lang/AbstractStringBuilder;" } : Jvm.MethodName) prog_26_method_22_code (3 : Nat) (Option.some (Jvm.ClassFile.FieldType.object "java/lang/AbstractStringBuilder"))) ∈ lw_all := lw_g (lw_at lw_m3 123 rfl) rfl
theorem q684 : (Jvm.Cond.methodLink "java/lang/AbstractStringBuilder" (204 : Nat) ({ cls := "java/lang/AbstractStringBuilder", name := "appendNull", desc := "()Ljava/lang/AbstractStringBuilder;" } : Jvm.MethodName)) ∈ lw_all := lw_g (lw_at lw_m3 124 rfl) rfl
theorem q685 : (Jvm.Cond.privateMethod ({ cls := "java/lang/AbstractStringBuilder", name := "appendNull", desc := "()Ljava/lang/AbstractStringBuilder;" } : Jvm.MethodName)) ∈ lw_tbl := lw_at lw_m3 125 rfl
theorem q686 : (Jvm.Cond.instanceMethod ({ cls := "java/lang/AbstractStringBuilder", name := "appendNull", desc := "()Ljava/lang/AbstractStringBuilder;" } : Jvm.MethodName)) ∈ lw_all := lw_g (lw_at lw_m3 126 rfl) rfl
theorem q687 : (Jvm.Cond.code ({ cls := "java/lang/AbstractStringBuilder", name := "appendNull", desc := "()Ljava/lang/AbstractStringBuilder;" } : Jvm.MethodName) prog_26_method_26_code (3 : Nat) (Option.some (Jvm.ClassFile.FieldType.object "java/lang/AbstractStringBuilder"))) ∈ lw_all := lw_g (lw_at lw_m3 127 rfl) rfl
theorem q688 : (Jvm.Cond.methodLink "java/lang/AbstractStringBuilder" (100 : Nat) ({ cls := "java/lang/AbstractStringBuilder", name := "ensureCapacityInternal", desc := "(I)V" } : Jvm.MethodName)) ∈ lw_all := lw_g (lw_at lw_m3 128 rfl) rfl
theorem q689 : (Jvm.Cond.privateMethod ({ cls := "java/lang/AbstractStringBuilder", name := "ensureCapacityInternal", desc := "(I)V" } : Jvm.MethodName)) ∈ lw_tbl := lw_at lw_m3 129 rfl
theorem q690 : (Jvm.Cond.instanceMethod ({ cls := "java/lang/AbstractStringBuilder", name := "ensureCapacityInternal", desc := "(I)V" } : Jvm.MethodName)) ∈ lw_all := lw_g (lw_at lw_m3 130 rfl) rfl
theorem q691 : (Jvm.Cond.code ({ cls := "java/lang/AbstractStringBuilder", name := "ensureCapacityInternal", desc := "(I)V" } : Jvm.MethodName) prog_26_method_9_code (3 : Nat) (Option.none : Option Jvm.ClassFile.FieldType)) ∈ lw_all := lw_g (lw_at lw_m3 131 rfl) rfl
theorem q692 : (Jvm.Cond.methodLink "java/lang/AbstractStringBuilder" (104 : Nat) ({ cls := "java/lang/AbstractStringBuilder", name := "newCapacity", desc := "(I)I" } : Jvm.MethodName)) ∈ lw_all := lw_g (lw_at lw_m3 132 rfl) rfl
theorem q693 : (Jvm.Cond.privateMethod ({ cls := "java/lang/AbstractStringBuilder", name := "newCapacity", desc := "(I)I" } : Jvm.MethodName)) ∈ lw_tbl := lw_at lw_m3 133 rfl
theorem q694 : (Jvm.Cond.instanceMethod ({ cls := "java/lang/AbstractStringBuilder", name := "newCapacity", desc := "(I)I" } : Jvm.MethodName)) ∈ lw_all := lw_g (lw_at lw_m3 134 rfl) rfl
theorem q695 : (Jvm.Cond.code ({ cls := "java/lang/AbstractStringBuilder", name := "newCapacity", desc := "(I)I" } : Jvm.MethodName) prog_26_method_10_code (6 : Nat) (Option.some Jvm.ClassFile.FieldType.int)) ∈ lw_all := lw_g (lw_at lw_m3 135 rfl) rfl
theorem q696 : (Jvm.Cond.methodLink "java/lang/AbstractStringBuilder" (114 : Nat) ({ cls := "jdk/internal/util/ArraysSupport", name := "newLength", desc := "(III)I" } : Jvm.MethodName)) ∈ lw_all := lw_g (lw_at lw_m3 136 rfl) rfl
theorem q697 : (Jvm.Cond.constant "java/lang/AbstractStringBuilder" (39 : Nat) (2147483647 : Int32)) ∈ lw_all := lw_g (lw_at lw_m3 137 rfl) rfl
theorem q698 : (Jvm.Cond.methodLink "java/lang/AbstractStringBuilder" (108 : Nat) ({ cls := "java/util/Arrays", name := "copyOf", desc := "([BI)[B" } : Jvm.MethodName)) ∈ lw_all := lw_g (lw_at lw_m3 138 rfl) rfl
theorem q699 : (Jvm.Cond.static ({ cls := "java/util/Arrays", name := "copyOf", desc := "([BI)[B" } : Jvm.MethodName)) ∈ lw_all := lw_g (lw_at lw_m3 139 rfl) rfl
theorem q700 : (Jvm.Cond.code ({ cls := "java/util/Arrays", name := "copyOf", desc := "([BI)[B" } : Jvm.MethodName) prog_61_method_121_code (3 : Nat) (Option.some (Jvm.ClassFile.FieldType.array Jvm.ClassFile.FieldType.byte))) ∈ lw_all := lw_g (lw_at lw_m3 140 rfl) rfl
theorem q701 : (Jvm.Cond.methodLink "java/util/Arrays" (310 : Nat) ({ cls := "[B", name := "clone", desc := "()Ljava/lang/Object;" } : Jvm.MethodName)) ∈ lw_all := lw_g (lw_at lw_m3 141 rfl) rfl
theorem q702 : (Jvm.Cond.sameMethod "[B" "java/lang/Object" "clone" "()Ljava/lang/Object;") ∈ lw_all := lw_g (lw_at lw_m3 142 rfl) rfl
theorem q703 : (Jvm.Cond.native ({ cls := "java/lang/Object", name := "clone", desc := "()Ljava/lang/Object;" } : Jvm.MethodName)) ∈ lw_all := lw_g (lw_at lw_m3 143 rfl) rfl
theorem q704 : (Jvm.Cond.instanceMethod ({ cls := "java/lang/Object", name := "clone", desc := "()Ljava/lang/Object;" } : Jvm.MethodName)) ∈ lw_all := lw_g (lw_at lw_m3 144 rfl) rfl
theorem q705 : (Jvm.Cond.selects "[B" ({ cls := "[B", name := "clone", desc := "()Ljava/lang/Object;" } : Jvm.MethodName) ({ cls := "java/lang/Object", name := "clone", desc := "()Ljava/lang/Object;" } : Jvm.MethodName)) ∈ lw_all := lw_g (lw_at lw_m3 145 rfl) rfl
theorem q706 : (Jvm.Cond.castable "[B" "java/lang/Cloneable") ∈ lw_tbl := lw_at lw_m3 146 rfl
theorem q707 : (Jvm.Cond.classLink "java/util/Arrays" (311 : Nat) "[B") ∈ lw_all := lw_g (lw_at lw_m3 147 rfl) rfl
theorem q708 : (Jvm.Cond.methodLink "java/lang/AbstractStringBuilder" (83 : Nat) ({ cls := "java/lang/AbstractStringBuilder", name := "isLatin1", desc := "()Z" } : Jvm.MethodName)) ∈ lw_all := lw_g (lw_at lw_m3 148 rfl) rfl
theorem q709 : (Jvm.Cond.instanceMethod ({ cls := "java/lang/AbstractStringBuilder", name := "isLatin1", desc := "()Z" } : Jvm.MethodName)) ∈ lw_all := lw_g (lw_at lw_m3 149 rfl) rfl
theorem q710 : (Jvm.Cond.sameMethod "java/lang/AbstractStringBuilder" "java/lang/AbstractStringBuilder" "isLatin1" "()Z") ∈ lw_all := lw_g (lw_at lw_m3 150 rfl) rfl
theorem q711 : (Jvm.Cond.selects "java/lang/StringBuilder" ({ cls := "java/lang/AbstractStringBuilder", name := "isLatin1", desc := "()Z" } : Jvm.MethodName) ({ cls := "java/lang/AbstractStringBuilder", name := "isLatin1", desc := "()Z" } : Jvm.MethodName)) ∈ lw_all := lw_g (lw_at lw_m3 151 rfl) rfl
theorem q712 : (Jvm.Cond.code ({ cls := "java/lang/AbstractStringBuilder", name := "isLatin1", desc := "()Z" } : Jvm.MethodName) prog_26_method_68_code (1 : Nat) (Option.some Jvm.ClassFile.FieldType.boolean)) ∈ lw_all := lw_g (lw_at lw_m3 152 rfl) rfl
theorem q713 : (Jvm.Cond.methodLink "java/lang/AbstractStringBuilder" (226 : Nat) ({ cls := "java/lang/StringUTF16", name := "putCharsAt", desc := "([BICCCC)I" } : Jvm.MethodName)) ∈ lw_all := lw_g (lw_at lw_m3 153 rfl) rfl
theorem q714 : (Jvm.Cond.static ({ cls := "java/lang/StringUTF16", name := "putCharsAt", desc := "([BICCCC)I" } : Jvm.MethodName)) ∈ lw_all := lw_g (lw_at lw_m3 154 rfl) rfl
theorem q715 : (Jvm.Cond.code ({ cls := "java/lang/StringUTF16", name := "putCharsAt", desc := "([BICCCC)I" } : Jvm.MethodName) prog_48_method_81_code (7 : Nat) (Option.some Jvm.ClassFile.FieldType.int)) ∈ lw_all := lw_g (lw_at lw_m3 155 rfl) rfl
theorem q716 : (Jvm.Cond.methodLink "java/lang/StringUTF16" (96 : Nat) ({ cls := "java/lang/StringUTF16", name := "checkBoundsBeginEnd", desc := "(II[B)V" } : Jvm.MethodName)) ∈ lw_all := lw_g (lw_at lw_m3 156 rfl) rfl
theorem q717 : (Jvm.Cond.static ({ cls := "java/lang/StringUTF16", name := "checkBoundsBeginEnd", desc := "(II[B)V" } : Jvm.MethodName)) ∈ lw_all := lw_g (lw_at lw_m3 157 rfl) rfl
theorem q718 : (Jvm.Cond.code ({ cls := "java/lang/StringUTF16", name := "checkBoundsBeginEnd", desc := "(II[B)V" } : Jvm.MethodName) prog_48_method_93_code (3 : Nat) (Option.none : Option Jvm.ClassFile.FieldType)) ∈ lw_all := lw_g (lw_at lw_m3 158 rfl) rfl
theorem q719 : (Jvm.Cond.methodLink "java/lang/StringUTF16" (48 : Nat) ({ cls := "java/lang/StringUTF16", name := "length", desc := "([B)I" } : Jvm.MethodName)) ∈ lw_all := lw_g (lw_at lw_m3 159 rfl) rfl
theorem q720 : (Jvm.Cond.static ({ cls := "java/lang/StringUTF16", name := "length", desc := "([B)I" } : Jvm.MethodName)) ∈ lw_all := lw_g (lw_at lw_m3 160 rfl) rfl
theorem q721 : (Jvm.Cond.code ({ cls := "java/lang/StringUTF16", name := "length", desc := "([B)I" } : Jvm.MethodName) prog_48_method_6_code (1 : Nat) (Option.some Jvm.ClassFile.FieldType.int)) ∈ lw_all := lw_g (lw_at lw_m3 161 rfl) rfl
theorem q722 : (Jvm.Cond.methodLink "java/lang/StringUTF16" (241 : Nat) ({ cls := "java/lang/String", name := "checkBoundsBeginEnd", desc := "(III)V" } : Jvm.MethodName)) ∈ lw_all := lw_g (lw_at lw_m3 162 rfl) rfl
theorem q723 : (Jvm.Cond.static ({ cls := "java/lang/String", name := "checkBoundsBeginEnd", desc := "(III)V" } : Jvm.MethodName)) ∈ lw_all := lw_g (lw_at lw_m3 163 rfl) rfl
theorem q724 : (Jvm.Cond.code ({ cls := "java/lang/String", name := "checkBoundsBeginEnd", desc := "(III)V" } : Jvm.MethodName) prog_45_method_158_code (3 : Nat) (Option.none : Option Jvm.ClassFile.FieldType)) ∈ lw_all := lw_g (lw_at lw_m3 164 rfl) rfl
theorem q725 : (Jvm.Cond.fieldLink "java/lang/String" (1053 : Nat) "jdk/internal/util/Preconditions" "SIOOBE_FORMATTER" "Ljava/util/function/BiFunction;") ∈ lw_all := lw_g (lw_at lw_m3 165 rfl) rfl
theorem q726 : (Jvm.Cond.laysStatic "jdk/internal/util/Preconditions" "SIOOBE_FORMATTER" "Ljava/util/function/BiFunction;") ∈ lw_tbl := lw_at lw_m3 166 rfl
theorem q727 : (Jvm.Cond.methodLink "java/lang/String" (1062 : Nat) ({ cls := "jdk/internal/util/Preconditions", name := "checkFromToIndex", desc := "(IIILjava/util/function/BiFunction;)I" } : Jvm.MethodName)) ∈ lw_all := lw_g (lw_at lw_m3 167 rfl) rfl
theorem q728 : (Jvm.Cond.static ({ cls := "jdk/internal/util/Preconditions", name := "checkFromToIndex", desc := "(IIILjava/util/function/BiFunction;)I" } : Jvm.MethodName)) ∈ lw_all := lw_g (lw_at lw_m3 168 rfl) rfl
theorem q729 : (Jvm.Cond.code ({ cls := "jdk/internal/util/Preconditions", name := "checkFromToIndex", desc := "(IIILjava/util/function/BiFunction;)I" } : Jvm.MethodName) prog_98_method_12_code (4 : Nat) (Option.some Jvm.ClassFile.FieldType.int)) ∈ lw_all := lw_g (lw_at lw_m3 169 rfl) rfl
theorem q730 : (Jvm.Cond.methodLink "java/lang/StringUTF16" (111 : Nat) ({ cls := "java/lang/StringUTF16", name := "putChar", desc := "([BII)V" } : Jvm.MethodName)) ∈ lw_all := lw_g (lw_at lw_m3 170 rfl) rfl
theorem q731 : (Jvm.Cond.static ({ cls := "java/lang/StringUTF16", name := "putChar", desc := "([BII)V" } : Jvm.MethodName)) ∈ lw_all := lw_g (lw_at lw_m3 171 rfl) rfl
theorem q732 : (Jvm.Cond.code ({ cls := "java/lang/StringUTF16", name := "putChar", desc := "([BII)V" } : Jvm.MethodName) prog_48_method_4_code (3 : Nat) (Option.none : Option Jvm.ClassFile.FieldType)) ∈ lw_all := lw_g (lw_at lw_m3 172 rfl) rfl
theorem q733 : (Jvm.Cond.fieldLink "java/lang/StringUTF16" (44 : Nat) "java/lang/StringUTF16" "$assertionsDisabled" "Z") ∈ lw_all := lw_g (lw_at lw_m3 173 rfl) rfl
theorem q734 : (Jvm.Cond.laysStatic "java/lang/StringUTF16" "$assertionsDisabled" "Z") ∈ lw_tbl := lw_at lw_m3 174 rfl
theorem q735 : (Jvm.Cond.fieldLink "java/lang/StringUTF16" (59 : Nat) "java/lang/StringUTF16" "HI_BYTE_SHIFT" "I") ∈ lw_all := lw_g (lw_at lw_m3 175 rfl) rfl
theorem q736 : (Jvm.Cond.laysStatic "java/lang/StringUTF16" "HI_BYTE_SHIFT" "I") ∈ lw_tbl := lw_at lw_m3 176 rfl
theorem q737 : (Jvm.Cond.fieldLink "java/lang/StringUTF16" (63 : Nat) "java/lang/StringUTF16" "LO_BYTE_SHIFT" "I") ∈ lw_all := lw_g (lw_at lw_m3 177 rfl) rfl
theorem q738 : (Jvm.Cond.laysStatic "java/lang/StringUTF16" "LO_BYTE_SHIFT" "I") ∈ lw_tbl := lw_at lw_m3 178 rfl
theorem q739 : (Jvm.Cond.methodLink "java/lang/AbstractStringBuilder" (32 : Nat) ({ cls := "java/lang/String", name := "length", desc := "()I" } : Jvm.MethodName)) ∈ lw_all := lw_g (lw_at lw_m3 179 rfl) rfl
theorem q740 : (Jvm.Cond.instanceMethod ({ cls := "java/lang/String", name := "length", desc := "()I" } : Jvm.MethodName)) ∈ lw_all := lw_g (lw_at lw_m3 180 rfl) rfl
theorem q741 : (Jvm.Cond.selects "java/lang/String" ({ cls := "java/lang/String", name := "length", desc := "()I" } : Jvm.MethodName) ({ cls := "java/lang/String", name := "length", desc := "()I" } : Jvm.MethodName)) ∈ lw_all := lw_g (lw_at lw_m3 181 rfl) rfl
theorem q742 : (Jvm.Cond.code ({ cls := "java/lang/String", name := "length", desc := "()I" } : Jvm.MethodName) prog_45_method_54_code (1 : Nat) (Option.some Jvm.ClassFile.FieldType.int)) ∈ lw_all := lw_g (lw_at lw_m3 182 rfl) rfl
theorem q743 : (Jvm.Cond.methodLink "java/lang/String" (335 : Nat) ({ cls := "java/lang/String", name := "coder", desc := "()B" } : Jvm.MethodName)) ∈ lw_all := lw_g (lw_at lw_m3 183 rfl) rfl
theorem q744 : (Jvm.Cond.instanceMethod ({ cls := "java/lang/String", name := "coder", desc := "()B" } : Jvm.MethodName)) ∈ lw_all := lw_g (lw_at lw_m3 184 rfl) rfl
theorem q745 : (Jvm.Cond.selects "java/lang/String" ({ cls := "java/lang/String", name := "coder", desc := "()B" } : Jvm.MethodName) ({ cls := "java/lang/String", name := "coder", desc := "()B" } : Jvm.MethodName)) ∈ lw_all := lw_g (lw_at lw_m3 185 rfl) rfl
theorem q746 : (Jvm.Cond.code ({ cls := "java/lang/String", name := "coder", desc := "()B" } : Jvm.MethodName) prog_45_method_152_code (1 : Nat) (Option.some Jvm.ClassFile.FieldType.byte)) ∈ lw_all := lw_g (lw_at lw_m3 186 rfl) rfl
theorem q747 : (Jvm.Cond.fieldLink "java/lang/String" (38 : Nat) "java/lang/String" "COMPACT_STRINGS" "Z") ∈ lw_all := lw_g (lw_at lw_m3 187 rfl) rfl
theorem q748 : (Jvm.Cond.methodLink "java/lang/AbstractStringBuilder" (208 : Nat) ({ cls := "java/lang/AbstractStringBuilder", name := "putStringAt", desc := "(ILjava/lang/String;)V" } : Jvm.MethodName)) ∈ lw_all := lw_g (lw_at lw_m3 188 rfl) rfl
theorem q749 : (Jvm.Cond.privateMethod ({ cls := "java/lang/AbstractStringBuilder", name := "putStringAt", desc := "(ILjava/lang/String;)V" } : Jvm.MethodName)) ∈ lw_tbl := lw_at lw_m3 189 rfl
theorem q750 : (Jvm.Cond.instanceMethod ({ cls := "java/lang/AbstractStringBuilder", name := "putStringAt", desc := "(ILjava/lang/String;)V" } : Jvm.MethodName)) ∈ lw_all := lw_g (lw_at lw_m3 190 rfl) rfl
theorem q751 : (Jvm.Cond.code ({ cls := "java/lang/AbstractStringBuilder", name := "putStringAt", desc := "(ILjava/lang/String;)V" } : Jvm.MethodName) prog_26_method_73_code (3 : Nat) (Option.none : Option Jvm.ClassFile.FieldType)) ∈ lw_all := lw_g (lw_at lw_m3 191 rfl) rfl
theorem q752 : (Jvm.Cond.methodLink "java/lang/AbstractStringBuilder" (397 : Nat) ({ cls := "java/lang/AbstractStringBuilder", name := "inflateIfNeededFor", desc := "(Ljava/lang/String;)V" } : Jvm.MethodName)) ∈ lw_all := lw_g (lw_at lw_m3 192 rfl) rfl
theorem q753 : (Jvm.Cond.privateMethod ({ cls := "java/lang/AbstractStringBuilder", name := "inflateIfNeededFor", desc := "(Ljava/lang/String;)V" } : Jvm.MethodName)) ∈ lw_tbl := lw_at lw_m3 193 rfl
theorem q754 : (Jvm.Cond.instanceMethod ({ cls := "java/lang/AbstractStringBuilder", name := "inflateIfNeededFor", desc := "(Ljava/lang/String;)V" } : Jvm.MethodName)) ∈ lw_all := lw_g (lw_at lw_m3 194 rfl) rfl
theorem q755 : (Jvm.Cond.code ({ cls := "java/lang/AbstractStringBuilder", name := "inflateIfNeededFor", desc := "(Ljava/lang/String;)V" } : Jvm.MethodName) prog_26_method_71_code (2 : Nat) (Option.none : Option Jvm.ClassFile.FieldType)) ∈ lw_all := lw_g (lw_at lw_m3 195 rfl) rfl
theorem q756 : (Jvm.Cond.methodLink "java/lang/AbstractStringBuilder" (40 : Nat) ({ cls := "java/lang/String", name := "coder", desc := "()B" } : Jvm.MethodName)) ∈ lw_all := lw_g (lw_at lw_m3 196 rfl) rfl
theorem q757 : (Jvm.Cond.methodLink "java/lang/AbstractStringBuilder" (195 : Nat) ({ cls := "java/lang/AbstractStringBuilder", name := "inflate", desc := "()V" } : Jvm.MethodName)) ∈ lw_all := lw_g (lw_at lw_m3 197 rfl) rfl
theorem q758 : (Jvm.Cond.privateMethod ({ cls := "java/lang/AbstractStringBuilder", name := "inflate", desc := "()V" } : Jvm.MethodName)) ∈ lw_tbl := lw_at lw_m3 198 rfl
theorem q759 : (Jvm.Cond.instanceMethod ({ cls := "java/lang/AbstractStringBuilder", name := "inflate", desc := "()V" } : Jvm.MethodName)) ∈ lw_all := lw_g (lw_at lw_m3 199 rfl) rfl
theorem q760 : (Jvm.Cond.code ({ cls := "java/lang/AbstractStringBuilder", name := "inflate", desc := "()V" } : Jvm.MethodName) prog_26_method_11_code (2 : Nat) (Option.none : Option Jvm.ClassFile.FieldType)) ∈ lw_all := lw_g (lw_at lw_m3 200 rfl) rfl
theorem q761 : (Jvm.Cond.methodLink "java/lang/AbstractStringBuilder" (125 : Nat) ({ cls := "java/lang/StringLatin1", name := "inflate", desc := "([BI[BII)V" } : Jvm.MethodName)) ∈ lw_all := lw_g (lw_at lw_m3 201 rfl) rfl
theorem q762 : (Jvm.Cond.static ({ cls := "java/lang/StringLatin1", name := "inflate", desc := "([BI[BII)V" } : Jvm.MethodName)) ∈ lw_all := lw_g (lw_at lw_m3 202 rfl) rfl
theorem q763 : (Jvm.Cond.code ({ cls := "java/lang/StringLatin1", name := "inflate", desc := "([BI[BII)V" } : Jvm.MethodName) prog_47_method_50_code (5 : Nat) (Option.none : Option Jvm.ClassFile.FieldType)) ∈ lw_all := lw_g (lw_at lw_m3 203 rfl) rfl
theorem q764 : (Jvm.Cond.methodLink "java/lang/StringLatin1" (240 : Nat) ({ cls := "java/lang/StringUTF16", name := "inflate", desc := "([BI[BII)V" } : Jvm.MethodName)) ∈ lw_all := lw_g (lw_at lw_m3 204 rfl) rfl
theorem q765 : (Jvm.Cond.static ({ cls := "java/lang/StringUTF16", name := "inflate", desc := "([BI[BII)V" } : Jvm.MethodName)) ∈ lw_all := lw_g (lw_at lw_m3 205 rfl) rfl
theorem q766 : (Jvm.Cond.code ({ cls := "java/lang/StringUTF16", name := "inflate", desc := "([BI[BII)V" } : Jvm.MethodName) prog_48_method_86_code (6 : Nat) (Option.none : Option Jvm.ClassFile.FieldType)) ∈ lw_all := lw_g (lw_at lw_m3 206 rfl) rfl
theorem q767 : (Jvm.Cond.methodLink "java/lang/StringUTF16" (173 : Nat) ({ cls := "java/lang/StringUTF16", name := "checkBoundsOffCount", desc := "(II[B)V" } : Jvm.MethodName)) ∈ lw_all := lw_g (lw_at lw_m3 207 rfl) rfl
theorem q768 : (Jvm.Cond.static ({ cls := "java/lang/StringUTF16", name := "checkBoundsOffCount", desc := "(II[B)V" } : Jvm.MethodName)) ∈ lw_all := lw_g (lw_at lw_m3 208 rfl) rfl
theorem q769 : (Jvm.Cond.code ({ cls := "java/lang/StringUTF16", name := "checkBoundsOffCount", desc := "(II[B)V" } : Jvm.MethodName) prog_48_method_94_code (3 : Nat) (Option.none : Option Jvm.ClassFile.FieldType)) ∈ lw_all := lw_g (lw_at lw_m3 209 rfl) rfl
theorem q770 : (Jvm.Cond.methodLink "java/lang/StringUTF16" (419 : Nat) ({ cls := "java/lang/String", name := "checkBoundsOffCount", desc := "(III)I" } : Jvm.MethodName)) ∈ lw_all := lw_g (lw_at lw_m3 210 rfl) rfl
theorem q771 : (Jvm.Cond.static ({ cls := "java/lang/String", name := "checkBoundsOffCount", desc := "(III)I" } : Jvm.MethodName)) ∈ lw_all := lw_g (lw_at lw_m3 211 rfl) rfl
theorem q772 : (Jvm.Cond.code ({ cls := "java/lang/String", name := "checkBoundsOffCount", desc := "(III)I" } : Jvm.MethodName) prog_45_method_157_code (3 : Nat) (Option.some Jvm.ClassFile.FieldType.int)) ∈ lw_all := lw_g (lw_at lw_m3 212 rfl) rfl
theorem q773 : (Jvm.Cond.methodLink "java/lang/String" (1065 : Nat) ({ cls := "jdk/internal/util/Preconditions", name := "checkFromIndexSize", desc := "(IIILjava/util/function/BiFunction;)I" } : Jvm.MethodName)) ∈ lw_all := lw_g (lw_at lw_m3 213 rfl) rfl
theorem q774 : (Jvm.Cond.static ({ cls := "jdk/internal/util/Preconditions", name := "checkFromIndexSize", desc := "(IIILjava/util/function/BiFunction;)I" } : Jvm.MethodName)) ∈ lw_all := lw_g (lw_at lw_m3 214 rfl) rfl
theorem q775 : (Jvm.Cond.code ({ cls := "jdk/internal/util/Preconditions", name := "checkFromIndexSize", desc := "(IIILjava/util/function/BiFunction;)I" } : Jvm.MethodName) prog_98_method_13_code (4 : Nat) (Option.some Jvm.ClassFile.FieldType.int)) ∈ lw_all := lw_g (lw_at lw_m3 215 rfl) rfl
theorem q776 : (Jvm.Cond.methodLink "java/lang/AbstractStringBuilder" (399 : Nat) ({ cls := "java/lang/String", name := "getBytes", desc := "([BIB)V" } : Jvm.MethodName)) ∈ lw_all := lw_g (lw_at lw_m3 216 rfl) rfl
theorem q777 : (Jvm.Cond.instanceMethod ({ cls := "java/lang/String", name := "getBytes", desc := "([BIB)V" } : Jvm.MethodName)) ∈ lw_all := lw_g (lw_at lw_m3 217 rfl) rfl
theorem q778 : (Jvm.Cond.selects "java/lang/String" ({ cls := "java/lang/String", name := "getBytes", desc := "([BIB)V" } : Jvm.MethodName) ({ cls := "java/lang/String", name := "getBytes", desc := "([BIB)V" } : Jvm.MethodName)) ∈ lw_all := lw_g (lw_at lw_m3 218 rfl) rfl
theorem q779 : (Jvm.Cond.code ({ cls := "java/lang/String", name := "getBytes", desc := "([BIB)V" } : Jvm.MethodName) prog_45_method_147_code (4 : Nat) (Option.none : Option Jvm.ClassFile.FieldType)) ∈ lw_all := lw_g (lw_at lw_m3 219 rfl) rfl
theorem q780 : (Jvm.Cond.methodLink "java/lang/String" (212 : Nat) ({ cls := "java/lang/System", name := "arraycopy", desc := "(Ljava/lang/Object;ILjava/lang/Object;II)V" } : Jvm.MethodName)) ∈ lw_all := lw_g (lw_at lw_m3 220 rfl) rfl
theorem q781 : (Jvm.Cond.methodLink "java/lang/String" (106 : Nat) ({ cls := "java/lang/StringLatin1", name := "inflate", desc := "([BI[BII)V" } : Jvm.MethodName)) ∈ lw_all := lw_g (lw_at lw_m3 221 rfl) rfl
theorem q782 : (Jvm.Cond.stringRef "MasterTree" (95 : Nat) " ") ∈ lw_tbl := lw_at lw_m3 222 rfl
theorem q783 : (Jvm.Cond.methodLink "MasterTree" (97 : Nat) ({ cls := "java/lang/StringBuilder", name := "append", desc := "(I)Ljava/lang/StringBuilder;" } : Jvm.MethodName)) ∈ lw_all := lw_g (lw_at lw_m3 223 rfl) rfl
theorem q784 : (Jvm.Cond.instanceMethod ({ cls := "java/lang/StringBuilder", name := "append", desc := "(I)Ljava/lang/StringBuilder;" } : Jvm.MethodName)) ∈ lw_all := lw_g (lw_at lw_m3 224 rfl) rfl
theorem q785 : (Jvm.Cond.selects "java/lang/StringBuilder" ({ cls := "java/lang/StringBuilder", name := "append", desc := "(I)Ljava/lang/StringBuilder;" } : Jvm.MethodName) ({ cls := "java/lang/StringBuilder", name := "append", desc := "(I)Ljava/lang/StringBuilder;" } : Jvm.MethodName)) ∈ lw_all := lw_g (lw_at lw_m3 225 rfl) rfl
theorem q786 : (Jvm.Cond.code ({ cls := "java/lang/StringBuilder", name := "append", desc := "(I)Ljava/lang/StringBuilder;" } : Jvm.MethodName) prog_46_method_15_code (2 : Nat) (Option.some (Jvm.ClassFile.FieldType.object "java/lang/StringBuilder"))) ∈ lw_all := lw_g (lw_at lw_m3 226 rfl) rfl
theorem q787 : (Jvm.Cond.methodLink "java/lang/StringBuilder" (53 : Nat) ({ cls := "java/lang/AbstractStringBuilder", name := "append", desc := "(I)Ljava/lang/AbstractStringBuilder;" } : Jvm.MethodName)) ∈ lw_all := lw_g (lw_at lw_m3 227 rfl) rfl
theorem q788 : (Jvm.Cond.instanceMethod ({ cls := "java/lang/AbstractStringBuilder", name := "append", desc := "(I)Ljava/lang/AbstractStringBuilder;" } : Jvm.MethodName)) ∈ lw_all := lw_g (lw_at lw_m3 228 rfl) rfl
theorem q789 : (Jvm.Cond.code ({ cls := "java/lang/AbstractStringBuilder", name := "append", desc := "(I)Ljava/lang/AbstractStringBuilder;" } : Jvm.MethodName) prog_26_method_32_code (4 : Nat) (Option.some (Jvm.ClassFile.FieldType.object "java/lang/AbstractStringBuilder"))) ∈ lw_all := lw_g (lw_at lw_m3 229 rfl) rfl
theorem q790 : (Jvm.Cond.methodLink "java/lang/AbstractStringBuilder" (245 : Nat) ({ cls := "java/lang/Integer", name := "stringSize", desc := "(I)I" } : Jvm.MethodName)) ∈ lw_all := lw_g (lw_at lw_m3 230 rfl) rfl
theorem q791 : (Jvm.Cond.static ({ cls := "java/lang/Integer", name := "stringSize", desc := "(I)I" } : Jvm.MethodName)) ∈ lw_all := lw_g (lw_at lw_m3 231 rfl) rfl
theorem q792 : (Jvm.Cond.code ({ cls := "java/lang/Integer", name := "stringSize", desc := "(I)I" } : Jvm.MethodName) prog_37_method_13_code (4 : Nat) (Option.some Jvm.ClassFile.FieldType.int)) ∈ lw_all := lw_g (lw_at lw_m3 232 rfl) rfl
theorem q793 : (Jvm.Cond.methodLink "java/lang/AbstractStringBuilder" (248 : Nat) ({ cls := "java/lang/Integer", name := "getChars", desc := "(II[B)I" } : Jvm.MethodName)) ∈ lw_all := lw_g (lw_at lw_m3 233 rfl) rfl
theorem q794 : (Jvm.Cond.static ({ cls := "java/lang/Integer", name := "getChars", desc := "(II[B)I" } : Jvm.MethodName)) ∈ lw_all := lw_g (lw_at lw_m3 234 rfl) rfl
theorem q795 : (Jvm.Cond.code ({ cls := "java/lang/Integer", name := "getChars", desc := "(II[B)I" } : Jvm.MethodName) prog_37_method_12_code (7 : Nat) (Option.some Jvm.ClassFile.FieldType.int)) ∈ lw_all := lw_g (lw_at lw_m3 235 rfl) rfl
theorem q796 : (Jvm.Cond.fieldLink "java/lang/Integer" (83 : Nat) "java/lang/Integer" "DigitOnes" "[B") ∈ lw_all := lw_g (lw_at lw_m3 236 rfl) rfl
theorem q797 : (Jvm.Cond.laysStatic "java/lang/Integer" "DigitOnes" "[B") ∈ lw_tbl := lw_at lw_m3 237 rfl
theorem q798 : (Jvm.Cond.fieldLink "java/lang/Integer" (87 : Nat) "java/lang/Integer" "DigitTens" "[B") ∈ lw_all := lw_g (lw_at lw_m3 238 rfl) rfl
theorem q799 : (Jvm.Cond.laysStatic "java/lang/Integer" "DigitTens" "[B") ∈ lw_tbl := lw_at lw_m3 239 rfl
theorem q800 : (Jvm.Cond.methodLink "java/lang/AbstractStringBuilder" (251 : Nat) ({ cls := "java/lang/StringUTF16", name := "getChars", desc := "(III[B)I" } : Jvm.MethodName)) ∈ lw_all := lw_g (lw_at lw_m4 0 rfl) rfl
theorem q801 : (Jvm.Cond.static ({ cls := "java/lang/StringUTF16", name := "getChars", desc := "(III[B)I" } : Jvm.MethodName)) ∈ lw_all := lw_g (lw_at lw_m4 1 rfl) rfl
theorem q802 : (Jvm.Cond.code ({ cls := "java/lang/StringUTF16", name := "getChars", desc := "(III[B)I" } : Jvm.MethodName) prog_48_method_77_code (5 : Nat) (Option.some Jvm.ClassFile.FieldType.int)) ∈ lw_all := lw_g (lw_at lw_m4 2 rfl) rfl
theorem q803 : (Jvm.Cond.methodLink "java/lang/StringUTF16" (393 : Nat) ({ cls := "java/lang/StringUTF16", name := "getChars", desc := "(II[B)I" } : Jvm.MethodName)) ∈ lw_all := lw_g (lw_at lw_m4 3 rfl) rfl
theorem q804 : (Jvm.Cond.static ({ cls := "java/lang/StringUTF16", name := "getChars", desc := "(II[B)I" } : Jvm.MethodName)) ∈ lw_all := lw_g (lw_at lw_m4 4 rfl) rfl
theorem q805 : (Jvm.Cond.code ({ cls := "java/lang/StringUTF16", name := "getChars", desc := "(II[B)I" } : Jvm.MethodName) prog_48_method_89_code (7 : Nat) (Option.some Jvm.ClassFile.FieldType.int)) ∈ lw_all := lw_g (lw_at lw_m4 5 rfl) rfl
theorem q806 : (Jvm.Cond.fieldLink "java/lang/StringUTF16" (403 : Nat) "java/lang/Integer" "DigitOnes" "[B") ∈ lw_all := lw_g (lw_at lw_m4 6 rfl) rfl
theorem q807 : (Jvm.Cond.fieldLink "java/lang/StringUTF16" (407 : Nat) "java/lang/Integer" "DigitTens" "[B") ∈ lw_all := lw_g (lw_at lw_m4 7 rfl) rfl
theorem q808 : (Jvm.Cond.methodLink "MasterTree" (100 : Nat) ({ cls := "java/lang/StringBuilder", name := "toString", desc := "()Ljava/lang/String;" } : Jvm.MethodName)) ∈ lw_all := lw_g (lw_at lw_m4 8 rfl) rfl
theorem q809 : (Jvm.Cond.instanceMethod ({ cls := "java/lang/StringBuilder", name := "toString", desc := "()Ljava/lang/String;" } : Jvm.MethodName)) ∈ lw_all := lw_g (lw_at lw_m4 9 rfl) rfl
theorem q810 : (Jvm.Cond.selects "java/lang/StringBuilder" ({ cls := "java/lang/StringBuilder", name := "toString", desc := "()Ljava/lang/String;" } : Jvm.MethodName) ({ cls := "java/lang/StringBuilder", name := "toString", desc := "()Ljava/lang/String;" } : Jvm.MethodName)) ∈ lw_all := lw_g (lw_at lw_m4 10 rfl) rfl
theorem q811 : (Jvm.Cond.code ({ cls := "java/lang/StringBuilder", name := "toString", desc := "()Ljava/lang/String;" } : Jvm.MethodName) prog_46_method_42_code (1 : Nat) (Option.some (Jvm.ClassFile.FieldType.object "java/lang/String"))) ∈ lw_all := lw_g (lw_at lw_m4 11 rfl) rfl
theorem q812 : (Jvm.Cond.classLink "java/lang/StringBuilder" (18 : Nat) "java/lang/String") ∈ lw_all := lw_g (lw_at lw_m4 12 rfl) rfl
theorem q813 : (Jvm.Cond.methodLink "java/lang/StringBuilder" (137 : Nat) ({ cls := "java/lang/String", name := "<init>", desc := "(Ljava/lang/StringBuilder;)V" } : Jvm.MethodName)) ∈ lw_all := lw_g (lw_at lw_m4 13 rfl) rfl
theorem q814 : (Jvm.Cond.instanceMethod ({ cls := "java/lang/String", name := "<init>", desc := "(Ljava/lang/StringBuilder;)V" } : Jvm.MethodName)) ∈ lw_all := lw_g (lw_at lw_m4 14 rfl) rfl
theorem q815 : (Jvm.Cond.code ({ cls := "java/lang/String", name := "<init>", desc := "(Ljava/lang/StringBuilder;)V" } : Jvm.MethodName) prog_45_method_53_code (2 : Nat) (Option.none : Option Jvm.ClassFile.FieldType)) ∈ lw_all := lw_g (lw_at lw_m4 15 rfl) rfl
theorem q816 : (Jvm.Cond.methodLink "java/lang/String" (489 : Nat) ({ cls := "java/lang/String", name := "<init>", desc := "(Ljava/lang/AbstractStringBuilder;Ljava/lang/Void;)V" } : Jvm.MethodName)) ∈ lw_all := lw_g (lw_at lw_m4 16 rfl) rfl
theorem q817 : (Jvm.Cond.instanceMethod ({ cls := "java/lang/String", name := "<init>", desc := "(Ljava/lang/AbstractStringBuilder;Ljava/lang/Void;)V" } : Jvm.MethodName)) ∈ lw_all := lw_g (lw_at lw_m4 17 rfl) rfl
theorem q818 : (Jvm.Cond.code ({ cls := "java/lang/String", name := "<init>", desc := "(Ljava/lang/AbstractStringBuilder;Ljava/lang/Void;)V" } : Jvm.MethodName) prog_45_method_150_code (5 : Nat) (Option.none : Option Jvm.ClassFile.FieldType)) ∈ lw_all := lw_g (lw_at lw_m4 18 rfl) rfl
theorem q819 : (Jvm.Cond.methodLink "java/lang/String" (1 : Nat) ({ cls := "java/lang/Object", name := "<init>", desc := "()V" } : Jvm.MethodName)) ∈ lw_all := lw_g (lw_at lw_m4 19 rfl) rfl
theorem q820 : (Jvm.Cond.methodLink "java/lang/String" (552 : Nat) ({ cls := "java/lang/AbstractStringBuilder", name := "getValue", desc := "()[B" } : Jvm.MethodName)) ∈ lw_all := lw_g (lw_at lw_m4 20 rfl) rfl
theorem q821 : (Jvm.Cond.instanceMethod ({ cls := "java/lang/AbstractStringBuilder", name := "getValue", desc := "()[B" } : Jvm.MethodName)) ∈ lw_all := lw_g (lw_at lw_m4 21 rfl) rfl
theorem q822 : (Jvm.Cond.sameMethod "java/lang/AbstractStringBuilder" "java/lang/AbstractStringBuilder" "getValue" "()[B") ∈ lw_all := lw_g (lw_at lw_m4 22 rfl) rfl
theorem q823 : (Jvm.Cond.selects "java/lang/StringBuilder" ({ cls := "java/lang/AbstractStringBuilder", name := "getValue", desc := "()[B" } : Jvm.MethodName) ({ cls := "java/lang/AbstractStringBuilder", name := "getValue", desc := "()[B" } : Jvm.MethodName)) ∈ lw_all := lw_g (lw_at lw_m4 23 rfl) rfl
theorem q824 : (Jvm.Cond.code ({ cls := "java/lang/AbstractStringBuilder", name := "getValue", desc := "()[B" } : Jvm.MethodName) prog_26_method_64_code (1 : Nat) (Option.some (Jvm.ClassFile.FieldType.array Jvm.ClassFile.FieldType.byte))) ∈ lw_all := lw_g (lw_at lw_m4 24 rfl) rfl
theorem q825 : (Jvm.Cond.methodLink "java/lang/String" (549 : Nat) ({ cls := "java/lang/AbstractStringBuilder", name := "length", desc := "()I" } : Jvm.MethodName)) ∈ lw_all := lw_g (lw_at lw_m4 25 rfl) rfl
theorem q826 : (Jvm.Cond.instanceMethod ({ cls := "java/lang/AbstractStringBuilder", name := "length", desc := "()I" } : Jvm.MethodName)) ∈ lw_all := lw_g (lw_at lw_m4 26 rfl) rfl
theorem q827 : (Jvm.Cond.sameMethod "java/lang/AbstractStringBuilder" "java/lang/AbstractStringBuilder" "length" "()I") ∈ lw_all := lw_g (lw_at lw_m4 27 rfl) rfl
theorem q828 : (Jvm.Cond.selects "java/lang/StringBuilder" ({ cls := "java/lang/AbstractStringBuilder", name := "length", desc := "()I" } : Jvm.MethodName) ({ cls := "java/lang/StringBuilder", name := "length", desc := "()I" } : Jvm.MethodName)) ∈ lw_all := lw_g (lw_at lw_m4 28 rfl) rfl
theorem q829 : (Jvm.Cond.instanceMethod ({ cls := "java/lang/StringBuilder", name := "length", desc := "()I" } : Jvm.MethodName)) ∈ lw_all := lw_g (lw_at lw_m4 29 rfl) rfl
theorem q830 : (Jvm.Cond.code ({ cls := "java/lang/StringBuilder", name := "length", desc := "()I" } : Jvm.MethodName) prog_46_method_93_code (1 : Nat) (Option.some Jvm.ClassFile.FieldType.int)) ∈ lw_all := lw_g (lw_at lw_m4 30 rfl) rfl
theorem q831 : (Jvm.Cond.methodLink "java/lang/StringBuilder" (343 : Nat) ({ cls := "java/lang/AbstractStringBuilder", name := "length", desc := "()I" } : Jvm.MethodName)) ∈ lw_all := lw_g (lw_at lw_m4 31 rfl) rfl
theorem q832 : (Jvm.Cond.code ({ cls := "java/lang/AbstractStringBuilder", name := "length", desc := "()I" } : Jvm.MethodName) prog_26_method_6_code (1 : Nat) (Option.some Jvm.ClassFile.FieldType.int)) ∈ lw_all := lw_g (lw_at lw_m4 32 rfl) rfl
theorem q833 : (Jvm.Cond.methodLink "java/lang/String" (1047 : Nat) ({ cls := "java/lang/AbstractStringBuilder", name := "isLatin1", desc := "()Z" } : Jvm.MethodName)) ∈ lw_all := lw_g (lw_at lw_m4 33 rfl) rfl
theorem q834 : (Jvm.Cond.methodLink "java/lang/String" (54 : Nat) ({ cls := "java/util/Arrays", name := "copyOfRange", desc := "([BII)[B" } : Jvm.MethodName)) ∈ lw_all := lw_g (lw_at lw_m4 34 rfl) rfl
theorem q835 : (Jvm.Cond.static ({ cls := "java/util/Arrays", name := "copyOfRange", desc := "([BII)[B" } : Jvm.MethodName)) ∈ lw_all := lw_g (lw_at lw_m4 35 rfl) rfl
theorem q836 : (Jvm.Cond.code ({ cls := "java/util/Arrays", name := "copyOfRange", desc := "([BII)[B" } : Jvm.MethodName) prog_61_method_132_code (3 : Nat) (Option.some (Jvm.ClassFile.FieldType.array Jvm.ClassFile.FieldType.byte))) ∈ lw_all := lw_g (lw_at lw_m4 36 rfl) rfl
theorem q837 : (Jvm.Cond.methodLink "java/util/Arrays" (339 : Nat) ({ cls := "java/util/Arrays", name := "copyOfRangeByte", desc := "([BII)[B" } : Jvm.MethodName)) ∈ lw_all := lw_g (lw_at lw_m4 37 rfl) rfl
theorem q838 : (Jvm.Cond.static ({ cls := "java/util/Arrays", name := "copyOfRangeByte", desc := "([BII)[B" } : Jvm.MethodName)) ∈ lw_all := lw_g (lw_at lw_m4 38 rfl) rfl
theorem q839 : (Jvm.Cond.code ({ cls := "java/util/Arrays", name := "copyOfRangeByte", desc := "([BII)[B" } : Jvm.MethodName) prog_61_method_133_code (5 : Nat) (Option.some (Jvm.ClassFile.FieldType.array Jvm.ClassFile.FieldType.byte))) ∈ lw_all := lw_g (lw_at lw_m4 39 rfl) rfl
theorem q840 : (Jvm.Cond.methodLink "java/util/Arrays" (343 : Nat) ({ cls := "java/util/Arrays", name := "checkLength", desc := "(II)V" } : Jvm.MethodName)) ∈ lw_all := lw_g (lw_at lw_m4 40 rfl) rfl
theorem q841 : (Jvm.Cond.static ({ cls := "java/util/Arrays", name := "checkLength", desc := "(II)V" } : Jvm.MethodName)) ∈ lw_all := lw_g (lw_at lw_m4 41 rfl) rfl
theorem q842 : (Jvm.Cond.code ({ cls := "java/util/Arrays", name := "checkLength", desc := "(II)V" } : Jvm.MethodName) prog_61_method_131_code (2 : Nat) (Option.none : Option Jvm.ClassFile.FieldType)) ∈ lw_all := lw_g (lw_at lw_m4 42 rfl) rfl
theorem q843 : (Jvm.Cond.classLink "java/util/Arrays" (43 : Nat) "java/lang/IllegalArgumentException") ∈ lw_all := lw_g (lw_at lw_m4 43 rfl) rfl
theorem q844 : (Jvm.Cond.instantiable "java/lang/IllegalArgumentException" (6 : Nat)) ∈ lw_all := lw_g (lw_at lw_m4 44 rfl) rfl
theorem q845 : (Jvm.Cond.castable "java/lang/IllegalArgumentException" "java/lang/IllegalArgumentException") ∈ lw_tbl := lw_at lw_m4 45 rfl
theorem q846 : (Jvm.Cond.selects "java/lang/IllegalArgumentException" ({ cls := "java/lang/Throwable", name := "fillInStackTrace", desc := "(I)Ljava/lang/Throwable;" } : Jvm.MethodName) ({ cls := "java/lang/Throwable", name := "fillInStackTrace", desc := "(I)Ljava/lang/Throwable;" } : Jvm.MethodName)) ∈ lw_all := lw_g (lw_at lw_m4 46 rfl) rfl
theorem q847 : (Jvm.Cond.lays "java/lang/IllegalArgumentException" "java/lang/Throwable" "cause" "Ljava/lang/Throwable;") ∈ lw_all := lw_g (lw_at lw_m4 47 rfl) rfl
theorem q848 : (Jvm.Cond.lays "java/lang/IllegalArgumentException" "java/lang/Throwable" "stackTrace" "[Ljava/lang/StackTraceElement;") ∈ lw_all := lw_g (lw_at lw_m4 48 rfl) rfl
theorem q849 : (Jvm.Cond.lays "java/lang/IllegalArgumentException" "java/lang/Throwable" "suppressedExceptions" "Ljava/util/List;") ∈ lw_all := lw_g (lw_at lw_m4 49 rfl) rfl
theorem q850 : (Jvm.Cond.lays "java/lang/IllegalArgumentException" "java/lang/Throwable" "detailMessage" "Ljava/lang/String;") ∈ lw_all := lw_g (lw_at lw_m4 50 rfl) rfl
theorem q851 : (Jvm.Cond.lays "java/lang/IllegalArgumentException" "java/lang/Throwable" "backtrace" "Ljava/lang/Object;") ∈ lw_all := lw_g (lw_at lw_m4 51 rfl) rfl
theorem q852 : (Jvm.Cond.classLink "java/util/Arrays" (45 : Nat) "java/lang/StringBuilder") ∈ lw_all := lw_g (lw_at lw_m4 52 rfl) rfl
theorem q853 : (Jvm.Cond.methodLink "java/util/Arrays" (47 : Nat) ({ cls := "java/lang/StringBuilder", name := "<init>", desc := "()V" } : Jvm.MethodName)) ∈ lw_all := lw_g (lw_at lw_m4 53 rfl) rfl
theorem q854 : (Jvm.Cond.methodLink "java/util/Arrays" (54 : Nat) ({ cls := "java/lang/StringBuilder", name := "append", desc := "(I)Ljava/lang/StringBuilder;" } : Jvm.MethodName)) ∈ lw_all := lw_g (lw_at lw_m4 54 rfl) rfl
theorem q855 : (Jvm.Cond.stringRef "java/util/Arrays" (337 : Nat) " > ") ∈ lw_tbl := lw_at lw_m4 55 rfl
theorem q856 : (Jvm.Cond.methodLink "java/util/Arrays" (50 : Nat) ({ cls := "java/lang/StringBuilder", name := "append", desc := "(Ljava/lang/String;)Ljava/lang/StringBuilder;" } : Jvm.MethodName)) ∈ lw_all := lw_g (lw_at lw_m4 56 rfl) rfl
theorem q857 : (Jvm.Cond.methodLink "java/util/Arrays" (61 : Nat) ({ cls := "java/lang/StringBuilder", name := "toString", desc := "()Ljava/lang/String;" } : Jvm.MethodName)) ∈ lw_all := lw_g (lw_at lw_m4 57 rfl) rfl
theorem q858 : (Jvm.Cond.methodLink "java/util/Arrays" (65 : Nat) ({ cls := "java/lang/IllegalArgumentException", name := "<init>", desc := "(Ljava/lang/String;)V" } : Jvm.MethodName)) ∈ lw_all := lw_g (lw_at lw_m4 58 rfl) rfl
theorem q859 : (Jvm.Cond.instanceMethod ({ cls := "java/lang/IllegalArgumentException", name := "<init>", desc := "(Ljava/lang/String;)V" } : Jvm.MethodName)) ∈ lw_all := lw_g (lw_at lw_m4 59 rfl) rfl
theorem q860 : (Jvm.Cond.code ({ cls := "java/lang/IllegalArgumentException", name := "<init>", desc := "(Ljava/lang/String;)V" } : Jvm.MethodName) prog_34_method_2_code (2 : Nat) (Option.none : Option Jvm.ClassFile.FieldType)) ∈ lw_all := lw_g (lw_at lw_m4 60 rfl) rfl
theorem q861 : (Jvm.Cond.methodLink "java/lang/IllegalArgumentException" (7 : Nat) ({ cls := "java/lang/RuntimeException", name := "<init>", desc := "(Ljava/lang/String;)V" } : Jvm.MethodName)) ∈ lw_all := lw_g (lw_at lw_m4 61 rfl) rfl
theorem q862 : (Jvm.Cond.lays "java/lang/IllegalArgumentException" "java/lang/Throwable" "depth" "I") ∈ lw_all := lw_g (lw_at lw_m4 62 rfl) rfl
theorem q863 : (Jvm.Cond.superclass "java/lang/IllegalArgumentException" "java/lang/RuntimeException") ∈ lw_all := lw_g (lw_at lw_m4 63 rfl) rfl
theorem q864 : (Jvm.Cond.methodLink "java/lang/String" (1051 : Nat) ({ cls := "java/lang/StringUTF16", name := "compress", desc := "([BII)[B" } : Jvm.MethodName)) ∈ lw_all := lw_g (lw_at lw_m4 64 rfl) rfl
theorem q865 : (Jvm.Cond.static ({ cls := "java/lang/StringUTF16", name := "compress", desc := "([BII)[B" } : Jvm.MethodName)) ∈ lw_all := lw_g (lw_at lw_m4 65 rfl) rfl
theorem q866 : (Jvm.Cond.code ({ cls := "java/lang/StringUTF16", name := "compress", desc := "([BII)[B" } : Jvm.MethodName) prog_48_method_17_code (6 : Nat) (Option.some (Jvm.ClassFile.FieldType.array Jvm.ClassFile.FieldType.byte))) ∈ lw_all := lw_g (lw_at lw_m4 66 rfl) rfl
theorem q867 : (Jvm.Cond.methodLink "java/lang/StringUTF16" (123 : Nat) ({ cls := "java/lang/StringUTF16", name := "compress", desc := "([BI[BII)I" } : Jvm.MethodName)) ∈ lw_all := lw_g (lw_at lw_m4 67 rfl) rfl
theorem q868 : (Jvm.Cond.static ({ cls := "java/lang/StringUTF16", name := "compress", desc := "([BI[BII)I" } : Jvm.MethodName)) ∈ lw_all := lw_g (lw_at lw_m4 68 rfl) rfl
theorem q869 : (Jvm.Cond.code ({ cls := "java/lang/StringUTF16", name := "compress", desc := "([BI[BII)I" } : Jvm.MethodName) prog_48_method_22_code (7 : Nat) (Option.some Jvm.ClassFile.FieldType.int)) ∈ lw_all := lw_g (lw_at lw_m4 69 rfl) rfl
theorem q870 : (Jvm.Cond.methodLink "java/lang/StringUTF16" (71 : Nat) ({ cls := "java/lang/StringUTF16", name := "getChar", desc := "([BI)C" } : Jvm.MethodName)) ∈ lw_all := lw_g (lw_at lw_m4 70 rfl) rfl
theorem q871 : (Jvm.Cond.static ({ cls := "java/lang/StringUTF16", name := "getChar", desc := "([BI)C" } : Jvm.MethodName)) ∈ lw_all := lw_g (lw_at lw_m4 71 rfl) rfl
theorem q872 : (Jvm.Cond.code ({ cls := "java/lang/StringUTF16", name := "getChar", desc := "([BI)C" } : Jvm.MethodName) prog_48_method_5_code (2 : Nat) (Option.some Jvm.ClassFile.FieldType.char)) ∈ lw_all := lw_g (lw_at lw_m4 72 rfl) rfl
theorem q873 : (Jvm.Cond.methodLink "java/lang/StringUTF16" (126 : Nat) ({ cls := "java/util/Arrays", name := "copyOfRange", desc := "([BII)[B" } : Jvm.MethodName)) ∈ lw_all := lw_g (lw_at lw_m4 73 rfl) rfl
theorem q874 : (Jvm.Cond.methodLink "java/lang/String" (47 : Nat) ({ cls := "java/lang/StringUTF16", name := "coderFromArrayLen", desc := "([BI)B" } : Jvm.MethodName)) ∈ lw_all := lw_g (lw_at lw_m4 74 rfl) rfl
theorem q875 : (Jvm.Cond.static ({ cls := "java/lang/StringUTF16", name := "coderFromArrayLen", desc := "([BI)B" } : Jvm.MethodName)) ∈ lw_all := lw_g (lw_at lw_m4 75 rfl) rfl
theorem q876 : (Jvm.Cond.code ({ cls := "java/lang/StringUTF16", name := "coderFromArrayLen", desc := "([BI)B" } : Jvm.MethodName) prog_48_method_15_code (2 : Nat) (Option.some Jvm.ClassFile.FieldType.byte)) ∈ lw_all := lw_g (lw_at lw_m4 76 rfl) rfl
theorem q877 : (Jvm.Cond.fieldLink "java/lang/String" (9 : Nat) "java/lang/String" "value" "[B") ∈ lw_all := lw_g (lw_at lw_m4 77 rfl) rfl
theorem q878 : (Jvm.Cond.fieldLink "java/lang/String" (15 : Nat) "java/lang/String" "coder" "B") ∈ lw_all := lw_g (lw_at lw_m4 78 rfl) rfl
theorem q879 : (Jvm.Cond.lays "java/lang/String" "java/lang/String" "hash" "I") ∈ lw_all := lw_g (lw_at lw_m4 79 rfl) rfl
theorem q880 : (Jvm.Cond.soleField "java/lang/String" "hash") ∈ lw_all := lw_g (lw_at lw_m4 80 rfl) rfl
theorem q881 : (Jvm.Cond.lays "java/lang/String" "java/lang/String" "hashIsZero" "Z") ∈ lw_all := lw_g (lw_at lw_m4 81 rfl) rfl
theorem q882 : (Jvm.Cond.soleField "java/lang/String" "hashIsZero") ∈ lw_all := lw_g (lw_at lw_m4 82 rfl) rfl
theorem q883 : (Jvm.Cond.superclass "java/lang/String" "java/lang/Object") ∈ lw_all := lw_g (lw_at lw_m4 83 rfl) rfl
theorem q884 : (Jvm.Cond.methodLink "MasterTree" (104 : Nat) ({ cls := "java/lang/IndexOutOfBoundsException", name := "<init>", desc := "(Ljava/lang/String;)V" } : Jvm.MethodName)) ∈ lw_all := lw_g (lw_at lw_m4 84 rfl) rfl
theorem q885 : (Jvm.Cond.lays "java/lang/IndexOutOfBoundsException" "java/lang/Throwable" "depth" "I") ∈ lw_all := lw_g (lw_at lw_m4 85 rfl) rfl
theorem q886 : (Jvm.Cond.superclass "java/lang/IndexOutOfBoundsException" "java/lang/RuntimeException") ∈ lw_all := lw_g (lw_at lw_m4 86 rfl) rfl
theorem q887 : (Jvm.Cond.interfaceEntry "MasterTree" (113 : Nat)) ∈ lw_tbl := lw_at lw_m4 87 rfl
theorem q888 : (Jvm.Cond.methodLink "MasterTree" (113 : Nat) ({ cls := "java/util/List", name := "get", desc := "(I)Ljava/lang/Object;" } : Jvm.MethodName)) ∈ lw_all := lw_g (lw_at lw_m4 88 rfl) rfl
theorem q889 : (Jvm.Cond.interfaceMethod "java/util/List" "java/util/List" "get" "(I)Ljava/lang/Object;") ∈ lw_tbl := lw_at lw_m4 89 rfl
theorem q890 : (Jvm.Cond.declares ({ cls := "java/util/List", name := "get", desc := "(I)Ljava/lang/Object;" } : Jvm.MethodName)) ∈ lw_tbl := lw_at lw_m4 90 rfl
theorem q891 : (Jvm.Cond.selects "java/util/ArrayList" ({ cls := "java/util/List", name := "get", desc := "(I)Ljava/lang/Object;" } : Jvm.MethodName) ({ cls := "java/util/ArrayList", name := "get", desc := "(I)Ljava/lang/Object;" } : Jvm.MethodName)) ∈ lw_all := lw_g (lw_at lw_m4 91 rfl) rfl
theorem q892 : (Jvm.Cond.unhidden "java/util/ArrayList" "get" "(I)Ljava/lang/Object;") ∈ lw_tbl := lw_at lw_m4 92 rfl
theorem q893 : (Jvm.Cond.instanceMethod ({ cls := "java/util/ArrayList", name := "get", desc := "(I)Ljava/lang/Object;" } : Jvm.MethodName)) ∈ lw_all := lw_g (lw_at lw_m4 93 rfl) rfl
theorem q894 : (Jvm.Cond.publicMethod ({ cls := "java/util/ArrayList", name := "get", desc := "(I)Ljava/lang/Object;" } : Jvm.MethodName)) ∈ lw_tbl := lw_at lw_m4 94 rfl
theorem q895 : (Jvm.Cond.code ({ cls := "java/util/ArrayList", name := "get", desc := "(I)Ljava/lang/Object;" } : Jvm.MethodName) prog_59_method_20_code (2 : Nat) (Option.some (Jvm.ClassFile.FieldType.object "java/lang/Object"))) ∈ lw_all := lw_g (lw_at lw_m4 95 rfl) rfl
theorem q896 : (Jvm.Cond.methodLink "java/util/ArrayList" (118 : Nat) ({ cls := "java/util/Objects", name := "checkIndex", desc := "(II)I" } : Jvm.MethodName)) ∈ lw_all := lw_g (lw_at lw_m4 96 rfl) rfl
theorem q897 : (Jvm.Cond.static ({ cls := "java/util/Objects", name := "checkIndex", desc := "(II)I" } : Jvm.MethodName)) ∈ lw_all := lw_g (lw_at lw_m4 97 rfl) rfl
theorem q898 : (Jvm.Cond.code ({ cls := "java/util/Objects", name := "checkIndex", desc := "(II)I" } : Jvm.MethodName) prog_71_method_17_code (2 : Nat) (Option.some Jvm.ClassFile.FieldType.int)) ∈ lw_all := lw_g (lw_at lw_m4 98 rfl) rfl
theorem q899 : (Jvm.Cond.methodLink "java/util/Objects" (105 : Nat) ({ cls := "jdk/internal/util/Preconditions", name := "checkIndex", desc := "(IILjava/util/function/BiFunction;)I" } : Jvm.MethodName)) ∈ lw_all := lw_g (lw_at lw_m4 99 rfl) rfl
theorem q900 : (Jvm.Cond.static ({ cls := "jdk/internal/util/Preconditions", name := "checkIndex", desc := "(IILjava/util/function/BiFunction;)I" } : Jvm.MethodName)) ∈ lw_all := lw_g (lw_at lw_m4 100 rfl) rfl
theorem q901 : (Jvm.Cond.code ({ cls := "jdk/internal/util/Preconditions", name := "checkIndex", desc := "(IILjava/util/function/BiFunction;)I" } : Jvm.MethodName) prog_98_method_11_code (3 : Nat) (Option.some Jvm.ClassFile.FieldType.int)) ∈ lw_all := lw_g (lw_at lw_m4 101 rfl) rfl
theorem q902 : (Jvm.Cond.methodLink "java/util/ArrayList" (123 : Nat) ({ cls := "java/util/ArrayList", name := "elementData", desc := "(I)Ljava/lang/Object;" } : Jvm.MethodName)) ∈ lw_all := lw_g (lw_at lw_m4 102 rfl) rfl
theorem q903 : (Jvm.Cond.instanceMethod ({ cls := "java/util/ArrayList", name := "elementData", desc := "(I)Ljava/lang/Object;" } : Jvm.MethodName)) ∈ lw_all := lw_g (lw_at lw_m4 103 rfl) rfl
theorem q904 : (Jvm.Cond.selects "java/util/ArrayList" ({ cls := "java/util/ArrayList", name := "elementData", desc := "(I)Ljava/lang/Object;" } : Jvm.MethodName) ({ cls := "java/util/ArrayList", name := "elementData", desc := "(I)Ljava/lang/Object;" } : Jvm.MethodName)) ∈ lw_all := lw_g (lw_at lw_m4 104 rfl) rfl
theorem q905 : (Jvm.Cond.code ({ cls := "java/util/ArrayList", name := "elementData", desc := "(I)Ljava/lang/Object;" } : Jvm.MethodName) prog_59_method_18_code (2 : Nat) (Option.some (Jvm.ClassFile.FieldType.object "java/lang/Object"))) ∈ lw_all := lw_g (lw_at lw_m4 105 rfl) rfl
theorem q906 : (Jvm.Cond.classLink "MasterTree" (147 : Nat) "MasterTree$Klass") ∈ lw_all := lw_g (lw_at lw_m4 106 rfl) rfl
theorem q907 : (Jvm.Cond.stringRef "MasterTree" (176 : Nat) "there is no such attribute") ∈ lw_tbl := lw_at lw_m4 107 rfl
theorem q908 : (Jvm.Cond.stringRef "MasterTree" (178 : Nat) "there are too many classes") ∈ lw_tbl := lw_at lw_m4 108 rfl
theorem q909 : (Jvm.Cond.instantiable "MasterTree$Klass" (3 : Nat)) ∈ lw_all := lw_g (lw_at lw_m4 109 rfl) rfl
theorem q910 : (Jvm.Cond.methodLink "MasterTree" (180 : Nat) ({ cls := "MasterTree$Klass", name := "<init>", desc := "(LMasterTree$Klass;II)V" } : Jvm.MethodName)) ∈ lw_all := lw_g (lw_at lw_m4 110 rfl) rfl
theorem q911 : (Jvm.Cond.instanceMethod ({ cls := "MasterTree$Klass", name := "<init>", desc := "(LMasterTree$Klass;II)V" } : Jvm.MethodName)) ∈ lw_all := lw_g (lw_at lw_m4 111 rfl) rfl
theorem q912 : (Jvm.Cond.code ({ cls := "MasterTree$Klass", name := "<init>", desc := "(LMasterTree$Klass;II)V" } : Jvm.MethodName) prog_20_method_1_code (4 : Nat) (Option.none : Option Jvm.ClassFile.FieldType)) ∈ lw_all := lw_g (lw_at lw_m4 112 rfl) rfl
theorem q913 : (Jvm.Cond.methodLink "MasterTree$Klass" (1 : Nat) ({ cls := "java/lang/Object", name := "<init>", desc := "()V" } : Jvm.MethodName)) ∈ lw_all := lw_g (lw_at lw_m4 113 rfl) rfl
theorem q914 : (Jvm.Cond.fieldLink "MasterTree$Klass" (7 : Nat) "MasterTree$Klass" "parent" "LMasterTree$Klass;") ∈ lw_all := lw_g (lw_at lw_m4 114 rfl) rfl
theorem q915 : (Jvm.Cond.fieldLink "MasterTree$Klass" (13 : Nat) "MasterTree$Klass" "required" "I") ∈ lw_all := lw_g (lw_at lw_m4 115 rfl) rfl
theorem q916 : (Jvm.Cond.fieldLinkNest "MasterTree$Master" (202 : Nat) "MasterTree$Klass" "required" "I" "MasterTree") ∈ lw_tbl := lw_at lw_m4 116 rfl
theorem q917 : (Jvm.Cond.fieldLinkNest "MasterTree" (246 : Nat) "MasterTree$Klass" "required" "I" "MasterTree") ∈ lw_tbl := lw_at lw_m4 117 rfl
theorem q918 : (Jvm.Cond.fieldLink "MasterTree$Klass" (17 : Nat) "MasterTree$Klass" "allowed" "I") ∈ lw_all := lw_g (lw_at lw_m4 118 rfl) rfl
theorem q919 : (Jvm.Cond.fieldLinkNest "MasterTree" (235 : Nat) "MasterTree$Klass" "allowed" "I" "MasterTree") ∈ lw_tbl := lw_at lw_m4 119 rfl
theorem q920 : (Jvm.Cond.laysFinal "MasterTree$Klass" "MasterTree$Klass" "parent" "LMasterTree$Klass;") ∈ lw_all := lw_g (lw_at lw_m4 120 rfl) rfl
theorem q921 : (Jvm.Cond.soleField "MasterTree$Klass" "parent") ∈ lw_all := lw_g (lw_at lw_m4 121 rfl) rfl
theorem q922 : (Jvm.Cond.laysFinal "MasterTree$Klass" "MasterTree$Klass" "required" "I") ∈ lw_all := lw_g (lw_at lw_m4 122 rfl) rfl
theorem q923 : (Jvm.Cond.soleField "MasterTree$Klass" "required") ∈ lw_all := lw_g (lw_at lw_m4 123 rfl) rfl
theorem q924 : (Jvm.Cond.laysFinal "MasterTree$Klass" "MasterTree$Klass" "allowed" "I") ∈ lw_all := lw_g (lw_at lw_m4 124 rfl) rfl
theorem q925 : (Jvm.Cond.soleField "MasterTree$Klass" "allowed") ∈ lw_all := lw_g (lw_at lw_m4 125 rfl) rfl
theorem q926 : (Jvm.Cond.superclass "MasterTree$Klass" "java/lang/Object") ∈ lw_all := lw_g (lw_at lw_m4 126 rfl) rfl
theorem q927 : (Jvm.Cond.methodLink "MasterTreeLaw" (156 : Nat) ({ cls := "MasterTreeLaw", name := "serve", desc := "(LMasterTree;II[J)I" } : Jvm.MethodName)) ∈ lw_all := lw_g (lw_at lw_m4 127 rfl) rfl
theorem q928 : (Jvm.Cond.static ({ cls := "MasterTreeLaw", name := "serve", desc := "(LMasterTree;II[J)I" } : Jvm.MethodName)) ∈ lw_all := lw_g (lw_at lw_m4 128 rfl) rfl
theorem q929 : (Jvm.Cond.codeWith ({ cls := "MasterTreeLaw", name := "serve", desc := "(LMasterTree;II[J)I" } : Jvm.MethodName) method_5_code (5 : Nat) (Option.some Jvm.ClassFile.FieldType.int) [((0 : Nat), (10 : Nat), (13 : Nat), (19 : Nat))]) ∈ lw_all := lw_g (lw_at lw_m4 129 rfl) rfl
theorem q930 : (Jvm.Cond.methodLink "MasterTreeLaw" (21 : Nat) ({ cls := "MasterTree", name := "serve", desc := "(II)I" } : Jvm.MethodName)) ∈ lw_all := lw_g (lw_at lw_m4 130 rfl) rfl
theorem q931 : (Jvm.Cond.instanceMethod ({ cls := "MasterTree", name := "serve", desc := "(II)I" } : Jvm.MethodName)) ∈ lw_all := lw_g (lw_at lw_m4 131 rfl) rfl
theorem q932 : (Jvm.Cond.selects "MasterTree" ({ cls := "MasterTree", name := "serve", desc := "(II)I" } : Jvm.MethodName) ({ cls := "MasterTree", name := "serve", desc := "(II)I" } : Jvm.MethodName)) ∈ lw_all := lw_g (lw_at lw_m4 132 rfl) rfl
theorem q933 : (Jvm.Cond.code ({ cls := "MasterTree", name := "serve", desc := "(II)I" } : Jvm.MethodName) prog_1_method_16_code (5 : Nat) (Option.some Jvm.ClassFile.FieldType.int)) ∈ lw_all := lw_g (lw_at lw_m4 133 rfl) rfl
theorem q934 : (Jvm.Cond.methodLink "MasterTree" (183 : Nat) ({ cls := "MasterTree", name := "at", desc := "(I)LMasterTree$Master;" } : Jvm.MethodName)) ∈ lw_all := lw_g (lw_at lw_m4 134 rfl) rfl
theorem q935 : (Jvm.Cond.privateMethod ({ cls := "MasterTree", name := "at", desc := "(I)LMasterTree$Master;" } : Jvm.MethodName)) ∈ lw_tbl := lw_at lw_m4 135 rfl
theorem q936 : (Jvm.Cond.instanceMethod ({ cls := "MasterTree", name := "at", desc := "(I)LMasterTree$Master;" } : Jvm.MethodName)) ∈ lw_all := lw_g (lw_at lw_m4 136 rfl) rfl
theorem q937 : (Jvm.Cond.code ({ cls := "MasterTree", name := "at", desc := "(I)LMasterTree$Master;" } : Jvm.MethodName) prog_1_method_6_code (2 : Nat) (Option.some (Jvm.ClassFile.FieldType.object "MasterTree$Master"))) ∈ lw_all := lw_g (lw_at lw_m4 137 rfl) rfl
theorem q938 : (Jvm.Cond.stringRef "MasterTree" (107 : Nat) "master") ∈ lw_tbl := lw_at lw_m4 138 rfl
theorem q939 : (Jvm.Cond.stringRef "MasterTree" (187 : Nat) "user") ∈ lw_tbl := lw_at lw_m4 139 rfl
theorem q940 : (Jvm.Cond.methodLink "MasterTreeLaw" (160 : Nat) ({ cls := "MasterTreeLaw", name := "draft", desc := "(LMasterTree;II[J)I" } : Jvm.MethodName)) ∈ lw_all := lw_g (lw_at lw_m4 140 rfl) rfl
theorem q941 : (Jvm.Cond.static ({ cls := "MasterTreeLaw", name := "draft", desc := "(LMasterTree;II[J)I" } : Jvm.MethodName)) ∈ lw_all := lw_g (lw_at lw_m4 141 rfl) rfl
theorem q942 : (Jvm.Cond.codeWith ({ cls := "MasterTreeLaw", name := "draft", desc := "(LMasterTree;II[J)I" } : Jvm.MethodName) method_6_code (5 : Nat) (Option.some Jvm.ClassFile.FieldType.int) [((0 : Nat), (10 : Nat), (13 : Nat), (19 : Nat)), ((0 : Nat), (10 : Nat), (17 : Nat), (28 : Nat)), ((0 : Nat), (10 : Nat), (21 : Nat), (13 : Nat))]) ∈ lw_all := lw_g (lw_at lw_m4 142 rfl) rfl
theorem q943 : (Jvm.Cond.classLink "MasterTreeLaw" (28 : Nat) "java/lang/IllegalArgumentException") ∈ lw_all := lw_g (lw_at lw_m4 143 rfl) rfl
theorem q944 : (Jvm.Cond.methodLink "MasterTreeLaw" (25 : Nat) ({ cls := "MasterTree", name := "draft", desc := "(II)I" } : Jvm.MethodName)) ∈ lw_all := lw_g (lw_at lw_m4 144 rfl) rfl
theorem q945 : (Jvm.Cond.instanceMethod ({ cls := "MasterTree", name := "draft", desc := "(II)I" } : Jvm.MethodName)) ∈ lw_all := lw_g (lw_at lw_m4 145 rfl) rfl
theorem q946 : (Jvm.Cond.selects "MasterTree" ({ cls := "MasterTree", name := "draft", desc := "(II)I" } : Jvm.MethodName) ({ cls := "MasterTree", name := "draft", desc := "(II)I" } : Jvm.MethodName)) ∈ lw_all := lw_g (lw_at lw_m4 146 rfl) rfl
theorem q947 : (Jvm.Cond.code ({ cls := "MasterTree", name := "draft", desc := "(II)I" } : Jvm.MethodName) prog_1_method_17_code (3 : Nat) (Option.some Jvm.ClassFile.FieldType.int)) ∈ lw_all := lw_g (lw_at lw_m4 147 rfl) rfl
theorem q948 : (Jvm.Cond.methodLink "MasterTree" (191 : Nat) ({ cls := "MasterTree", name := "attributeAt", desc := "(I)LMasterTree$Attribute;" } : Jvm.MethodName)) ∈ lw_all := lw_g (lw_at lw_m4 148 rfl) rfl
theorem q949 : (Jvm.Cond.privateMethod ({ cls := "MasterTree", name := "attributeAt", desc := "(I)LMasterTree$Attribute;" } : Jvm.MethodName)) ∈ lw_tbl := lw_at lw_m4 149 rfl
theorem q950 : (Jvm.Cond.instanceMethod ({ cls := "MasterTree", name := "attributeAt", desc := "(I)LMasterTree$Attribute;" } : Jvm.MethodName)) ∈ lw_all := lw_g (lw_at lw_m4 150 rfl) rfl
theorem q951 : (Jvm.Cond.code ({ cls := "MasterTree", name := "attributeAt", desc := "(I)LMasterTree$Attribute;" } : Jvm.MethodName) prog_1_method_9_code (2 : Nat) (Option.some (Jvm.ClassFile.FieldType.object "MasterTree$Attribute"))) ∈ lw_all := lw_g (lw_at lw_m4 151 rfl) rfl
theorem q952 : (Jvm.Cond.stringRef "MasterTree" (141 : Nat) "attribute") ∈ lw_tbl := lw_at lw_m4 152 rfl
theorem q953 : (Jvm.Cond.methodLink "MasterTree" (195 : Nat) ({ cls := "MasterTree", name := "isWithin", desc := "(III)V" } : Jvm.MethodName)) ∈ lw_all := lw_g (lw_at lw_m4 153 rfl) rfl
theorem q954 : (Jvm.Cond.static ({ cls := "MasterTree", name := "isWithin", desc := "(III)V" } : Jvm.MethodName)) ∈ lw_all := lw_g (lw_at lw_m4 154 rfl) rfl
theorem q955 : (Jvm.Cond.code ({ cls := "MasterTree", name := "isWithin", desc := "(III)V" } : Jvm.MethodName) prog_1_method_11_code (3 : Nat) (Option.none : Option Jvm.ClassFile.FieldType)) ∈ lw_all := lw_g (lw_at lw_m4 155 rfl) rfl
theorem q956 : (Jvm.Cond.classLink "MasterTree" (149 : Nat) "java/lang/IllegalArgumentException") ∈ lw_all := lw_g (lw_at lw_m4 156 rfl) rfl
theorem q957 : (Jvm.Cond.stringRef "MasterTree" (151 : Nat) " is not from ") ∈ lw_tbl := lw_at lw_m4 157 rfl
theorem q958 : (Jvm.Cond.stringRef "MasterTree" (153 : Nat) " to ") ∈ lw_tbl := lw_at lw_m4 158 rfl
theorem q959 : (Jvm.Cond.methodLink "MasterTree" (155 : Nat) ({ cls := "java/lang/IllegalArgumentException", name := "<init>", desc := "(Ljava/lang/String;)V" } : Jvm.MethodName)) ∈ lw_all := lw_g (lw_at lw_m4 159 rfl) rfl
theorem q960 : (Jvm.Cond.stringRef "MasterTree" (199 : Nat) "too many values are drafted") ∈ lw_tbl := lw_at lw_m4 160 rfl
theorem q961 : (Jvm.Cond.methodLink "MasterTreeLaw" (167 : Nat) ({ cls := "MasterTreeLaw", name := "add", desc := "(LMasterTree;IIII[J)I" } : Jvm.MethodName)) ∈ lw_all := lw_g (lw_at lw_m4 161 rfl) rfl
theorem q962 : (Jvm.Cond.static ({ cls := "MasterTreeLaw", name := "add", desc := "(LMasterTree;IIII[J)I" } : Jvm.MethodName)) ∈ lw_all := lw_g (lw_at lw_m4 162 rfl) rfl
theorem q963 : (Jvm.Cond.codeWith ({ cls := "MasterTreeLaw", name := "add", desc := "(LMasterTree;IIII[J)I" } : Jvm.MethodName) method_7_code (7 : Nat) (Option.some Jvm.ClassFile.FieldType.int) [((0 : Nat), (14 : Nat), (17 : Nat), (19 : Nat)), ((0 : Nat), (14 : Nat), (21 : Nat), (28 : Nat)), ((0 : Nat), (14 : Nat), (25 : Nat), (13 : Nat))]) ∈ lw_all := lw_g (lw_at lw_m4 163 rfl) rfl
theorem q964 : (Jvm.Cond.methodLink "MasterTreeLaw" (30 : Nat) ({ cls := "MasterTree", name := "add", desc := "(IIII)I" } : Jvm.MethodName)) ∈ lw_all := lw_g (lw_at lw_m4 164 rfl) rfl
theorem q965 : (Jvm.Cond.instanceMethod ({ cls := "MasterTree", name := "add", desc := "(IIII)I" } : Jvm.MethodName)) ∈ lw_all := lw_g (lw_at lw_m4 165 rfl) rfl
theorem q966 : (Jvm.Cond.selects "MasterTree" ({ cls := "MasterTree", name := "add", desc := "(IIII)I" } : Jvm.MethodName) ({ cls := "MasterTree", name := "add", desc := "(IIII)I" } : Jvm.MethodName)) ∈ lw_all := lw_g (lw_at lw_m4 166 rfl) rfl
theorem q967 : (Jvm.Cond.code ({ cls := "MasterTree", name := "add", desc := "(IIII)I" } : Jvm.MethodName) prog_1_method_23_code (10 : Nat) (Option.some Jvm.ClassFile.FieldType.int)) ∈ lw_all := lw_g (lw_at lw_m4 167 rfl) rfl
theorem q968 : (Jvm.Cond.methodLink "MasterTree" (133 : Nat) ({ cls := "MasterTree", name := "liveAt", desc := "(LMasterTree$Master;I)LMasterTree$Entry;" } : Jvm.MethodName)) ∈ lw_all := lw_g (lw_at lw_m4 168 rfl) rfl
theorem q969 : (Jvm.Cond.static ({ cls := "MasterTree", name := "liveAt", desc := "(LMasterTree$Master;I)LMasterTree$Entry;" } : Jvm.MethodName)) ∈ lw_all := lw_g (lw_at lw_m4 169 rfl) rfl
theorem q970 : (Jvm.Cond.code ({ cls := "MasterTree", name := "liveAt", desc := "(LMasterTree$Master;I)LMasterTree$Entry;" } : Jvm.MethodName) prog_1_method_7_code (2 : Nat) (Option.some (Jvm.ClassFile.FieldType.object "MasterTree$Entry"))) ∈ lw_all := lw_g (lw_at lw_m4 170 rfl) rfl
theorem q971 : (Jvm.Cond.methodLink "MasterTree" (117 : Nat) ({ cls := "MasterTree$Master", name := "isLive", desc := "(I)Z" } : Jvm.MethodName)) ∈ lw_all := lw_g (lw_at lw_m4 171 rfl) rfl
theorem q972 : (Jvm.Cond.instanceMethod ({ cls := "MasterTree$Master", name := "isLive", desc := "(I)Z" } : Jvm.MethodName)) ∈ lw_all := lw_g (lw_at lw_m4 172 rfl) rfl
theorem q973 : (Jvm.Cond.selects "MasterTree$Master" ({ cls := "MasterTree$Master", name := "isLive", desc := "(I)Z" } : Jvm.MethodName) ({ cls := "MasterTree$Master", name := "isLive", desc := "(I)Z" } : Jvm.MethodName)) ∈ lw_all := lw_g (lw_at lw_m4 173 rfl) rfl
theorem q974 : (Jvm.Cond.code ({ cls := "MasterTree$Master", name := "isLive", desc := "(I)Z" } : Jvm.MethodName) prog_21_method_2_code (2 : Nat) (Option.some Jvm.ClassFile.FieldType.boolean)) ∈ lw_all := lw_g (lw_at lw_m4 174 rfl) rfl
theorem q975 : (Jvm.Cond.methodLink "MasterTree$Master" (57 : Nat) ({ cls := "MasterTree$Entry", name := "isLive", desc := "()Z" } : Jvm.MethodName)) ∈ lw_all := lw_g (lw_at lw_m4 175 rfl) rfl
theorem q976 : (Jvm.Cond.instanceMethod ({ cls := "MasterTree$Entry", name := "isLive", desc := "()Z" } : Jvm.MethodName)) ∈ lw_all := lw_g (lw_at lw_m4 176 rfl) rfl
theorem q977 : (Jvm.Cond.selects "MasterTree$Entry" ({ cls := "MasterTree$Entry", name := "isLive", desc := "()Z" } : Jvm.MethodName) ({ cls := "MasterTree$Entry", name := "isLive", desc := "()Z" } : Jvm.MethodName)) ∈ lw_all := lw_g (lw_at lw_m4 177 rfl) rfl
theorem q978 : (Jvm.Cond.code ({ cls := "MasterTree$Entry", name := "isLive", desc := "()Z" } : Jvm.MethodName) prog_7_method_2_code (1 : Nat) (Option.some Jvm.ClassFile.FieldType.boolean)) ∈ lw_all := lw_g (lw_at lw_m4 178 rfl) rfl
theorem q979 : (Jvm.Cond.stringRef "MasterTree" (121 : Nat) "no entry ") ∈ lw_tbl := lw_at lw_m4 179 rfl
theorem q980 : (Jvm.Cond.stringRef "MasterTree" (123 : Nat) " at the master ") ∈ lw_tbl := lw_at lw_m4 180 rfl
theorem q981 : (Jvm.Cond.methodLink "MasterTree" (249 : Nat) ({ cls := "MasterTree", name := "mayWrite", desc := "(LMasterTree$Master;I)V" } : Jvm.MethodName)) ∈ lw_all := lw_g (lw_at lw_m4 181 rfl) rfl
theorem q982 : (Jvm.Cond.privateMethod ({ cls := "MasterTree", name := "mayWrite", desc := "(LMasterTree$Master;I)V" } : Jvm.MethodName)) ∈ lw_tbl := lw_at lw_m4 182 rfl
theorem q983 : (Jvm.Cond.instanceMethod ({ cls := "MasterTree", name := "mayWrite", desc := "(LMasterTree$Master;I)V" } : Jvm.MethodName)) ∈ lw_all := lw_g (lw_at lw_m4 183 rfl) rfl
theorem q984 : (Jvm.Cond.code ({ cls := "MasterTree", name := "mayWrite", desc := "(LMasterTree$Master;I)V" } : Jvm.MethodName) prog_1_method_19_code (3 : Nat) (Option.none : Option Jvm.ClassFile.FieldType)) ∈ lw_all := lw_g (lw_at lw_m4 184 rfl) rfl
theorem q985 : (Jvm.Cond.stringRef "MasterTree" (207 : Nat) "there are too many changes") ∈ lw_tbl := lw_at lw_m4 185 rfl
theorem q986 : (Jvm.Cond.methodLink "MasterTree" (209 : Nat) ({ cls := "MasterTree$Master", name := "may", desc := "(III)Z" } : Jvm.MethodName)) ∈ lw_all := lw_g (lw_at lw_m4 186 rfl) rfl
theorem q987 : (Jvm.Cond.instanceMethod ({ cls := "MasterTree$Master", name := "may", desc := "(III)Z" } : Jvm.MethodName)) ∈ lw_all := lw_g (lw_at lw_m4 187 rfl) rfl
theorem q988 : (Jvm.Cond.selects "MasterTree$Master" ({ cls := "MasterTree$Master", name := "may", desc := "(III)Z" } : Jvm.MethodName) ({ cls := "MasterTree$Master", name := "may", desc := "(III)Z" } : Jvm.MethodName)) ∈ lw_all := lw_g (lw_at lw_m4 188 rfl) rfl
theorem q989 : (Jvm.Cond.code ({ cls := "MasterTree$Master", name := "may", desc := "(III)Z" } : Jvm.MethodName) prog_21_method_15_code (7 : Nat) (Option.some Jvm.ClassFile.FieldType.boolean)) ∈ lw_all := lw_g (lw_at lw_m4 189 rfl) rfl
theorem q990 : (Jvm.Cond.methodLink "MasterTree$Master" (235 : Nat) ({ cls := "java/lang/Math", name := "min", desc := "(II)I" } : Jvm.MethodName)) ∈ lw_all := lw_g (lw_at lw_m4 190 rfl) rfl
theorem q991 : (Jvm.Cond.methodLink "MasterTree$Master" (238 : Nat) ({ cls := "MasterTree$Master", name := "says", desc := "(LMasterTree$Entry;III)I" } : Jvm.MethodName)) ∈ lw_all := lw_g (lw_at lw_m4 191 rfl) rfl
theorem q992 : (Jvm.Cond.privateMethod ({ cls := "MasterTree$Master", name := "says", desc := "(LMasterTree$Entry;III)I" } : Jvm.MethodName)) ∈ lw_tbl := lw_at lw_m4 192 rfl
theorem q993 : (Jvm.Cond.instanceMethod ({ cls := "MasterTree$Master", name := "says", desc := "(LMasterTree$Entry;III)I" } : Jvm.MethodName)) ∈ lw_all := lw_g (lw_at lw_m4 193 rfl) rfl
theorem q994 : (Jvm.Cond.code ({ cls := "MasterTree$Master", name := "says", desc := "(LMasterTree$Entry;III)I" } : Jvm.MethodName) prog_21_method_14_code (12 : Nat) (Option.some Jvm.ClassFile.FieldType.int)) ∈ lw_all := lw_g (lw_at lw_m4 194 rfl) rfl
theorem q995 : (Jvm.Cond.methodLink "MasterTree$Master" (221 : Nat) ({ cls := "java/util/TreeMap", name := "entrySet", desc := "()Ljava/util/Set;" } : Jvm.MethodName)) ∈ lw_all := lw_g (lw_at lw_m4 195 rfl) rfl
theorem q996 : (Jvm.Cond.instanceMethod ({ cls := "java/util/TreeMap", name := "entrySet", desc := "()Ljava/util/Set;" } : Jvm.MethodName)) ∈ lw_all := lw_g (lw_at lw_m4 196 rfl) rfl
theorem q997 : (Jvm.Cond.selects "java/util/TreeMap" ({ cls := "java/util/TreeMap", name := "entrySet", desc := "()Ljava/util/Set;" } : Jvm.MethodName) ({ cls := "java/util/TreeMap", name := "entrySet", desc := "()Ljava/util/Set;" } : Jvm.MethodName)) ∈ lw_all := lw_g (lw_at lw_m4 197 rfl) rfl
theorem q998 : (Jvm.Cond.code ({ cls := "java/util/TreeMap", name := "entrySet", desc := "()Ljava/util/Set;" } : Jvm.MethodName) prog_79_method_53_code (2 : Nat) (Option.some (Jvm.ClassFile.FieldType.object "java/util/Set"))) ∈ lw_all := lw_g (lw_at lw_m4 198 rfl) rfl
theorem q999 : (Jvm.Cond.classLink "java/util/TreeMap" (242 : Nat) "java/util/TreeMap$EntrySet") ∈ lw_all := lw_g (lw_at lw_m4 199 rfl) rfl
theorem q1000 : (Jvm.Cond.instantiable "java/util/TreeMap$EntrySet" (1 : Nat)) ∈ lw_all := lw_g (lw_at lw_m4 200 rfl) rfl
theorem q1001 : (Jvm.Cond.methodLink "java/util/TreeMap" (244 : Nat) ({ cls := "java/util/TreeMap$EntrySet", name := "<init>", desc := "(Ljava/util/TreeMap;)V" } : Jvm.MethodName)) ∈ lw_all := lw_g (lw_at lw_m4 201 rfl) rfl
theorem q1002 : (Jvm.Cond.instanceMethod ({ cls := "java/util/TreeMap$EntrySet", name := "<init>", desc := "(Ljava/util/TreeMap;)V" } : Jvm.MethodName)) ∈ lw_all := lw_g (lw_at lw_m4 202 rfl) rfl
theorem q1003 : (Jvm.Cond.code ({ cls := "java/util/TreeMap$EntrySet", name := "<init>", desc := "(Ljava/util/TreeMap;)V" } : Jvm.MethodName) prog_84_method_1_code (2 : Nat) (Option.none : Option Jvm.ClassFile.FieldType)) ∈ lw_all := lw_g (lw_at lw_m4 203 rfl) rfl
theorem q1004 : (Jvm.Cond.methodLink "java/util/TreeMap$EntrySet" (7 : Nat) ({ cls := "java/util/AbstractSet", name := "<init>", desc := "()V" } : Jvm.MethodName)) ∈ lw_all := lw_g (lw_at lw_m4 204 rfl) rfl
theorem q1005 : (Jvm.Cond.instanceMethod ({ cls := "java/util/AbstractSet", name := "<init>", desc := "()V" } : Jvm.MethodName)) ∈ lw_all := lw_g (lw_at lw_m4 205 rfl) rfl
theorem q1006 : (Jvm.Cond.code ({ cls := "java/util/AbstractSet", name := "<init>", desc := "()V" } : Jvm.MethodName) prog_58_method_1_code (1 : Nat) (Option.none : Option Jvm.ClassFile.FieldType)) ∈ lw_all := lw_g (lw_at lw_m4 206 rfl) rfl
theorem q1007 : (Jvm.Cond.methodLink "java/util/AbstractSet" (1 : Nat) ({ cls := "java/util/AbstractCollection", name := "<init>", desc := "()V" } : Jvm.MethodName)) ∈ lw_all := lw_g (lw_at lw_m4 207 rfl) rfl
theorem q1008 : (Jvm.Cond.fieldLink "java/util/TreeMap$EntrySet" (1 : Nat) "java/util/TreeMap$EntrySet" "this$0" "Ljava/util/TreeMap;") ∈ lw_all := lw_g (lw_at lw_m4 208 rfl) rfl
theorem q1009 : (Jvm.Cond.laysFinal "java/util/TreeMap$EntrySet" "java/util/TreeMap$EntrySet" "this$0" "Ljava/util/TreeMap;") ∈ lw_all := lw_g (lw_at lw_m4 209 rfl) rfl
theorem q1010 : (Jvm.Cond.soleField "java/util/TreeMap$EntrySet" "this$0") ∈ lw_all := lw_g (lw_at lw_m4 210 rfl) rfl
theorem q1011 : (Jvm.Cond.superclass "java/util/TreeMap$EntrySet" "java/util/AbstractSet") ∈ lw_all := lw_g (lw_at lw_m4 211 rfl) rfl
theorem q1012 : (Jvm.Cond.interfaceEntry "MasterTree$Master" (72 : Nat)) ∈ lw_tbl := lw_at lw_m4 212 rfl
theorem q1013 : (Jvm.Cond.methodLink "MasterTree$Master" (72 : Nat) ({ cls := "java/util/Set", name := "iterator", desc := "()Ljava/util/Iterator;" } : Jvm.MethodName)) ∈ lw_all := lw_g (lw_at lw_m4 213 rfl) rfl
theorem q1014 : (Jvm.Cond.interfaceMethod "java/util/Set" "java/util/Set" "iterator" "()Ljava/util/Iterator;") ∈ lw_tbl := lw_at lw_m4 214 rfl
theorem q1015 : (Jvm.Cond.declares ({ cls := "java/util/Set", name := "iterator", desc := "()Ljava/util/Iterator;" } : Jvm.MethodName)) ∈ lw_tbl := lw_at lw_m4 215 rfl
theorem q1016 : (Jvm.Cond.castable "java/util/TreeMap$AscendingSubMap$AscendingEntrySetView" "java/util/Set") ∈ lw_tbl := lw_at lw_m4 216 rfl
theorem q1017 : (Jvm.Cond.selects "java/util/TreeMap$AscendingSubMap$AscendingEntrySetView" ({ cls := "java/util/Set", name := "iterator", desc := "()Ljava/util/Iterator;" } : Jvm.MethodName) ({ cls := "java/util/TreeMap$AscendingSubMap$AscendingEntrySetView", name := "iterator", desc := "()Ljava/util/Iterator;" } : Jvm.MethodName)) ∈ lw_all := lw_g (lw_at lw_m4 217 rfl) rfl
theorem q1018 : (Jvm.Cond.unhidden "java/util/TreeMap$AscendingSubMap$AscendingEntrySetView" "iterator" "()Ljava/util/Iterator;") ∈ lw_tbl := lw_at lw_m4 218 rfl
theorem q1019 : (Jvm.Cond.instanceMethod ({ cls := "java/util/TreeMap$AscendingSubMap$AscendingEntrySetView", name := "iterator", desc := "()Ljava/util/Iterator;" } : Jvm.MethodName)) ∈ lw_all := lw_g (lw_at lw_m4 219 rfl) rfl
theorem q1020 : (Jvm.Cond.publicMethod ({ cls := "java/util/TreeMap$AscendingSubMap$AscendingEntrySetView", name := "iterator", desc := "()Ljava/util/Iterator;" } : Jvm.MethodName)) ∈ lw_tbl := lw_at lw_m4 220 rfl
theorem q1021 : (Jvm.Cond.code ({ cls := "java/util/TreeMap$AscendingSubMap$AscendingEntrySetView", name := "iterator", desc := "()Ljava/util/Iterator;" } : Jvm.MethodName) prog_81_method_2_code (1 : Nat) (Option.some (Jvm.ClassFile.FieldType.object "java/util/Iterator"))) ∈ lw_all := lw_g (lw_at lw_m4 221 rfl) rfl
theorem q1022 : (Jvm.Cond.classLink "java/util/TreeMap$AscendingSubMap$AscendingEntrySetView" (13 : Nat) "java/util/TreeMap$NavigableSubMap$SubMapEntryIterator") ∈ lw_all := lw_g (lw_at lw_m4 222 rfl) rfl
theorem q1023 : (Jvm.Cond.instantiable "java/util/TreeMap$NavigableSubMap$SubMapEntryIterator" (5 : Nat)) ∈ lw_all := lw_g (lw_at lw_m4 223 rfl) rfl
theorem q1024 : (Jvm.Cond.methodLink "java/util/TreeMap$AscendingSubMap$AscendingEntrySetView" (15 : Nat) ({ cls := "java/util/TreeMap$AscendingSubMap", name := "absLowest", desc := "()Ljava/util/TreeMap$Entry;" } : Jvm.MethodName)) ∈ lw_all := lw_g (lw_at lw_m4 224 rfl) rfl
theorem q1025 : (Jvm.Cond.sameMethod "java/util/TreeMap$AscendingSubMap" "java/util/TreeMap$NavigableSubMap" "absLowest" "()Ljava/util/TreeMap$Entry;") ∈ lw_all := lw_g (lw_at lw_m4 225 rfl) rfl
theorem q1026 : (Jvm.Cond.declares ({ cls := "java/util/TreeMap$NavigableSubMap", name := "absLowest", desc := "()Ljava/util/TreeMap$Entry;" } : Jvm.MethodName)) ∈ lw_tbl := lw_at lw_m4 226 rfl
theorem q1027 : (Jvm.Cond.selects "java/util/TreeMap$AscendingSubMap" ({ cls := "java/util/TreeMap$AscendingSubMap", name := "absLowest", desc := "()Ljava/util/TreeMap$Entry;" } : Jvm.MethodName) ({ cls := "java/util/TreeMap$NavigableSubMap", name := "absLowest", desc := "()Ljava/util/TreeMap$Entry;" } : Jvm.MethodName)) ∈ lw_all := lw_g (lw_at lw_m4 227 rfl) rfl
theorem q1028 : (Jvm.Cond.instanceMethod ({ cls := "java/util/TreeMap$NavigableSubMap", name := "absLowest", desc := "()Ljava/util/TreeMap$Entry;" } : Jvm.MethodName)) ∈ lw_all := lw_g (lw_at lw_m4 228 rfl) rfl
theorem q1029 : (Jvm.Cond.code ({ cls := "java/util/TreeMap$NavigableSubMap", name := "absLowest", desc := "()Ljava/util/TreeMap$Entry;" } : Jvm.MethodName) prog_87_method_7_code (2 : Nat) (Option.some (Jvm.ClassFile.FieldType.object "java/util/TreeMap$Entry"))) ∈ lw_all := lw_g (lw_at lw_m4 229 rfl) rfl
theorem q1030 : (Jvm.Cond.methodLink "java/util/TreeMap$NavigableSubMap" (59 : Nat) ({ cls := "java/util/TreeMap", name := "getFirstEntry", desc := "()Ljava/util/TreeMap$Entry;" } : Jvm.MethodName)) ∈ lw_all := lw_g (lw_at lw_m4 230 rfl) rfl
theorem q1031 : (Jvm.Cond.instanceMethod ({ cls := "java/util/TreeMap", name := "getFirstEntry", desc := "()Ljava/util/TreeMap$Entry;" } : Jvm.MethodName)) ∈ lw_all := lw_g (lw_at lw_m4 231 rfl) rfl
theorem q1032 : (Jvm.Cond.selects "java/util/TreeMap" ({ cls := "java/util/TreeMap", name := "getFirstEntry", desc := "()Ljava/util/TreeMap$Entry;" } : Jvm.MethodName) ({ cls := "java/util/TreeMap", name := "getFirstEntry", desc := "()Ljava/util/TreeMap$Entry;" } : Jvm.MethodName)) ∈ lw_all := lw_g (lw_at lw_m4 232 rfl) rfl
theorem q1033 : (Jvm.Cond.code ({ cls := "java/util/TreeMap", name := "getFirstEntry", desc := "()Ljava/util/TreeMap$Entry;" } : Jvm.MethodName) prog_79_method_72_code (2 : Nat) (Option.some (Jvm.ClassFile.FieldType.object "java/util/TreeMap$Entry"))) ∈ lw_all := lw_g (lw_at lw_m4 233 rfl) rfl
theorem q1034 : (Jvm.Cond.methodLink "java/util/TreeMap$NavigableSubMap" (63 : Nat) ({ cls := "java/util/TreeMap", name := "getCeilingEntry", desc := "(Ljava/lang/Object;)Ljava/util/TreeMap$Entry;" } : Jvm.MethodName)) ∈ lw_all := lw_g (lw_at lw_m4 234 rfl) rfl
theorem q1035 : (Jvm.Cond.instanceMethod ({ cls := "java/util/TreeMap", name := "getCeilingEntry", desc := "(Ljava/lang/Object;)Ljava/util/TreeMap$Entry;" } : Jvm.MethodName)) ∈ lw_all := lw_g (lw_at lw_m4 235 rfl) rfl
theorem q1036 : (Jvm.Cond.selects "java/util/TreeMap" ({ cls := "java/util/TreeMap", name := "getCeilingEntry", desc := "(Ljava/lang/Object;)Ljava/util/TreeMap$Entry;" } : Jvm.MethodName) ({ cls := "java/util/TreeMap", name := "getCeilingEntry", desc := "(Ljava/lang/Object;)Ljava/util/TreeMap$Entry;" } : Jvm.MethodName)) ∈ lw_all := lw_g (lw_at lw_m4 236 rfl) rfl
theorem q1037 : (Jvm.Cond.code ({ cls := "java/util/TreeMap", name := "getCeilingEntry", desc := "(Ljava/lang/Object;)Ljava/util/TreeMap$Entry;" } : Jvm.MethodName) prog_79_method_17_code (6 : Nat) (Option.some (Jvm.ClassFile.FieldType.object "java/util/TreeMap$Entry"))) ∈ lw_all := lw_g (lw_at lw_m4 237 rfl) rfl
theorem q1038 : (Jvm.Cond.methodLink "java/util/TreeMap" (123 : Nat) ({ cls := "java/util/TreeMap", name := "compare", desc := "(Ljava/lang/Object;Ljava/lang/Object;)I" } : Jvm.MethodName)) ∈ lw_all := lw_g (lw_at lw_m4 238 rfl) rfl
theorem q1039 : (Jvm.Cond.instanceMethod ({ cls := "java/util/TreeMap", name := "compare", desc := "(Ljava/lang/Object;Ljava/lang/Object;)I" } : Jvm.MethodName)) ∈ lw_all := lw_g (lw_at lw_m4 239 rfl) rfl
theorem q1040 : (Jvm.Cond.selects "java/util/TreeMap" ({ cls := "java/util/TreeMap", name := "compare", desc := "(Ljava/lang/Object;Ljava/lang/Object;)I" } : Jvm.MethodName) ({ cls := "java/util/TreeMap", name := "compare", desc := "(Ljava/lang/Object;Ljava/lang/Object;)I" } : Jvm.MethodName)) ∈ lw_all := lw_g (lw_at lw_m5 0 rfl) rfl
theorem q1041 : (Jvm.Cond.code ({ cls := "java/util/TreeMap", name := "compare", desc := "(Ljava/lang/Object;Ljava/lang/Object;)I" } : Jvm.MethodName) prog_79_method_67_code (3 : Nat) (Option.some Jvm.ClassFile.FieldType.int)) ∈ lw_all := lw_g (lw_at lw_m5 1 rfl) rfl
theorem q1042 : (Jvm.Cond.classLink "java/util/TreeMap" (99 : Nat) "java/lang/Comparable") ∈ lw_all := lw_g (lw_at lw_m5 2 rfl) rfl
theorem q1043 : (Jvm.Cond.interfaceEntry "java/util/TreeMap" (107 : Nat)) ∈ lw_tbl := lw_at lw_m5 3 rfl
theorem q1044 : (Jvm.Cond.methodLink "java/util/TreeMap" (107 : Nat) ({ cls := "java/lang/Comparable", name := "compareTo", desc := "(Ljava/lang/Object;)I" } : Jvm.MethodName)) ∈ lw_all := lw_g (lw_at lw_m5 4 rfl) rfl
theorem q1045 : (Jvm.Cond.interfaceMethod "java/lang/Comparable" "java/lang/Comparable" "compareTo" "(Ljava/lang/Object;)I") ∈ lw_tbl := lw_at lw_m5 5 rfl
theorem q1046 : (Jvm.Cond.declares ({ cls := "java/lang/Comparable", name := "compareTo", desc := "(Ljava/lang/Object;)I" } : Jvm.MethodName)) ∈ lw_tbl := lw_at lw_m5 6 rfl
theorem q1047 : (Jvm.Cond.castable "MasterTree$Change" "java/lang/Comparable") ∈ lw_tbl := lw_at lw_m5 7 rfl
theorem q1048 : (Jvm.Cond.selects "MasterTree$Change" ({ cls := "java/lang/Comparable", name := "compareTo", desc := "(Ljava/lang/Object;)I" } : Jvm.MethodName) ({ cls := "MasterTree$Change", name := "compareTo", desc := "(Ljava/lang/Object;)I" } : Jvm.MethodName)) ∈ lw_all := lw_g (lw_at lw_m5 8 rfl) rfl
theorem q1049 : (Jvm.Cond.unhidden "MasterTree$Change" "compareTo" "(Ljava/lang/Object;)I") ∈ lw_tbl := lw_at lw_m5 9 rfl
theorem q1050 : (Jvm.Cond.instanceMethod ({ cls := "MasterTree$Change", name := "compareTo", desc := "(Ljava/lang/Object;)I" } : Jvm.MethodName)) ∈ lw_all := lw_g (lw_at lw_m5 10 rfl) rfl
theorem q1051 : (Jvm.Cond.publicMethod ({ cls := "MasterTree$Change", name := "compareTo", desc := "(Ljava/lang/Object;)I" } : Jvm.MethodName)) ∈ lw_tbl := lw_at lw_m5 11 rfl
theorem q1052 : (Jvm.Cond.code ({ cls := "MasterTree$Change", name := "compareTo", desc := "(Ljava/lang/Object;)I" } : Jvm.MethodName) prog_5_method_4_code (2 : Nat) (Option.some Jvm.ClassFile.FieldType.int)) ∈ lw_all := lw_g (lw_at lw_m5 12 rfl) rfl
theorem q1053 : (Jvm.Cond.classLink "MasterTree$Change" (8 : Nat) "MasterTree$Change") ∈ lw_all := lw_g (lw_at lw_m5 13 rfl) rfl
theorem q1054 : (Jvm.Cond.methodLink "MasterTree$Change" (55 : Nat) ({ cls := "MasterTree$Change", name := "compareTo", desc := "(LMasterTree$Change;)I" } : Jvm.MethodName)) ∈ lw_all := lw_g (lw_at lw_m5 14 rfl) rfl
theorem q1055 : (Jvm.Cond.instanceMethod ({ cls := "MasterTree$Change", name := "compareTo", desc := "(LMasterTree$Change;)I" } : Jvm.MethodName)) ∈ lw_all := lw_g (lw_at lw_m5 15 rfl) rfl
theorem q1056 : (Jvm.Cond.selects "MasterTree$Change" ({ cls := "MasterTree$Change", name := "compareTo", desc := "(LMasterTree$Change;)I" } : Jvm.MethodName) ({ cls := "MasterTree$Change", name := "compareTo", desc := "(LMasterTree$Change;)I" } : Jvm.MethodName)) ∈ lw_all := lw_g (lw_at lw_m5 16 rfl) rfl
theorem q1057 : (Jvm.Cond.code ({ cls := "MasterTree$Change", name := "compareTo", desc := "(LMasterTree$Change;)I" } : Jvm.MethodName) prog_5_method_2_code (2 : Nat) (Option.some Jvm.ClassFile.FieldType.int)) ∈ lw_all := lw_g (lw_at lw_m5 17 rfl) rfl
theorem q1058 : (Jvm.Cond.methodLink "MasterTree$Change" (39 : Nat) ({ cls := "java/lang/Integer", name := "compare", desc := "(II)I" } : Jvm.MethodName)) ∈ lw_all := lw_g (lw_at lw_m5 18 rfl) rfl
theorem q1059 : (Jvm.Cond.static ({ cls := "java/lang/Integer", name := "compare", desc := "(II)I" } : Jvm.MethodName)) ∈ lw_all := lw_g (lw_at lw_m5 19 rfl) rfl
theorem q1060 : (Jvm.Cond.code ({ cls := "java/lang/Integer", name := "compare", desc := "(II)I" } : Jvm.MethodName) prog_37_method_40_code (2 : Nat) (Option.some Jvm.ClassFile.FieldType.int)) ∈ lw_all := lw_g (lw_at lw_m5 20 rfl) rfl
theorem q1061 : (Jvm.Cond.castable "MasterTree$Kind$1" "java/lang/Comparable") ∈ lw_tbl := lw_at lw_m5 21 rfl
theorem q1062 : (Jvm.Cond.selects "MasterTree$Kind$1" ({ cls := "java/lang/Comparable", name := "compareTo", desc := "(Ljava/lang/Object;)I" } : Jvm.MethodName) ({ cls := "java/lang/Enum", name := "compareTo", desc := "(Ljava/lang/Object;)I" } : Jvm.MethodName)) ∈ lw_all := lw_g (lw_at lw_m5 22 rfl) rfl
theorem q1063 : (Jvm.Cond.unhidden "MasterTree$Kind$1" "compareTo" "(Ljava/lang/Object;)I") ∈ lw_tbl := lw_at lw_m5 23 rfl
theorem q1064 : (Jvm.Cond.instanceMethod ({ cls := "java/lang/Enum", name := "compareTo", desc := "(Ljava/lang/Object;)I" } : Jvm.MethodName)) ∈ lw_all := lw_g (lw_at lw_m5 24 rfl) rfl
theorem q1065 : (Jvm.Cond.publicMethod ({ cls := "java/lang/Enum", name := "compareTo", desc := "(Ljava/lang/Object;)I" } : Jvm.MethodName)) ∈ lw_tbl := lw_at lw_m5 25 rfl
theorem q1066 : (Jvm.Cond.code ({ cls := "java/lang/Enum", name := "compareTo", desc := "(Ljava/lang/Object;)I" } : Jvm.MethodName) prog_32_method_15_code (2 : Nat) (Option.some Jvm.ClassFile.FieldType.int)) ∈ lw_all := lw_g (lw_at lw_m5 26 rfl) rfl
theorem q1067 : (Jvm.Cond.classLink "java/lang/Enum" (2 : Nat) "java/lang/Enum") ∈ lw_all := lw_g (lw_at lw_m5 27 rfl) rfl
theorem q1068 : (Jvm.Cond.methodLink "java/lang/Enum" (101 : Nat) ({ cls := "java/lang/Enum", name := "compareTo", desc := "(Ljava/lang/Enum;)I" } : Jvm.MethodName)) ∈ lw_all := lw_g (lw_at lw_m5 28 rfl) rfl
theorem q1069 : (Jvm.Cond.instanceMethod ({ cls := "java/lang/Enum", name := "compareTo", desc := "(Ljava/lang/Enum;)I" } : Jvm.MethodName)) ∈ lw_all := lw_g (lw_at lw_m5 29 rfl) rfl
theorem q1070 : (Jvm.Cond.sameMethod "java/lang/Enum" "java/lang/Enum" "compareTo" "(Ljava/lang/Enum;)I") ∈ lw_all := lw_g (lw_at lw_m5 30 rfl) rfl
theorem q1071 : (Jvm.Cond.selects "MasterTree$Kind$1" ({ cls := "java/lang/Enum", name := "compareTo", desc := "(Ljava/lang/Enum;)I" } : Jvm.MethodName) ({ cls := "java/lang/Enum", name := "compareTo", desc := "(Ljava/lang/Enum;)I" } : Jvm.MethodName)) ∈ lw_all := lw_g (lw_at lw_m5 31 rfl) rfl
theorem q1072 : (Jvm.Cond.selects "MasterTree$Kind$2" ({ cls := "java/lang/Enum", name := "compareTo", desc := "(Ljava/lang/Enum;)I" } : Jvm.MethodName) ({ cls := "java/lang/Enum", name := "compareTo", desc := "(Ljava/lang/Enum;)I" } : Jvm.MethodName)) ∈ lw_all := lw_g (lw_at lw_m5 32 rfl) rfl
theorem q1073 : (Jvm.Cond.selects "MasterTree$Kind$3" ({ cls := "java/lang/Enum", name := "compareTo", desc := "(Ljava/lang/Enum;)I" } : Jvm.MethodName) ({ cls := "java/lang/Enum", name := "compareTo", desc := "(Ljava/lang/Enum;)I" } : Jvm.MethodName)) ∈ lw_all := lw_g (lw_at lw_m5 33 rfl) rfl
theorem q1074 : (Jvm.Cond.selects "MasterTree$Kind$4" ({ cls := "java/lang/Enum", name := "compareTo", desc := "(Ljava/lang/Enum;)I" } : Jvm.MethodName) ({ cls := "java/lang/Enum", name := "compareTo", desc := "(Ljava/lang/Enum;)I" } : Jvm.MethodName)) ∈ lw_all := lw_g (lw_at lw_m5 34 rfl) rfl
theorem q1075 : (Jvm.Cond.selects "MasterTree$Kind$5" ({ cls := "java/lang/Enum", name := "compareTo", desc := "(Ljava/lang/Enum;)I" } : Jvm.MethodName) ({ cls := "java/lang/Enum", name := "compareTo", desc := "(Ljava/lang/Enum;)I" } : Jvm.MethodName)) ∈ lw_all := lw_g (lw_at lw_m5 35 rfl) rfl
theorem q1076 : (Jvm.Cond.selects "MasterTree$Kind$6" ({ cls := "java/lang/Enum", name := "compareTo", desc := "(Ljava/lang/Enum;)I" } : Jvm.MethodName) ({ cls := "java/lang/Enum", name := "compareTo", desc := "(Ljava/lang/Enum;)I" } : Jvm.MethodName)) ∈ lw_all := lw_g (lw_at lw_m5 36 rfl) rfl
theorem q1077 : (Jvm.Cond.selects "MasterTree$Kind$7" ({ cls := "java/lang/Enum", name := "compareTo", desc := "(Ljava/lang/Enum;)I" } : Jvm.MethodName) ({ cls := "java/lang/Enum", name := "compareTo", desc := "(Ljava/lang/Enum;)I" } : Jvm.MethodName)) ∈ lw_all := lw_g (lw_at lw_m5 37 rfl) rfl
theorem q1078 : (Jvm.Cond.selects "MasterTree$Kind$8" ({ cls := "java/lang/Enum", name := "compareTo", desc := "(Ljava/lang/Enum;)I" } : Jvm.MethodName) ({ cls := "java/lang/Enum", name := "compareTo", desc := "(Ljava/lang/Enum;)I" } : Jvm.MethodName)) ∈ lw_all := lw_g (lw_at lw_m5 38 rfl) rfl
theorem q1079 : (Jvm.Cond.selects "MasterTree$Kind$9" ({ cls := "java/lang/Enum", name := "compareTo", desc := "(Ljava/lang/Enum;)I" } : Jvm.MethodName) ({ cls := "java/lang/Enum", name := "compareTo", desc := "(Ljava/lang/Enum;)I" } : Jvm.MethodName)) ∈ lw_all := lw_g (lw_at lw_m5 39 rfl) rfl
theorem q1080 : (Jvm.Cond.code ({ cls := "java/lang/Enum", name := "compareTo", desc := "(Ljava/lang/Enum;)I" } : Jvm.MethodName) prog_32_method_8_code (4 : Nat) (Option.some Jvm.ClassFile.FieldType.int)) ∈ lw_all := lw_g (lw_at lw_m5 40 rfl) rfl
theorem q1081 : (Jvm.Cond.methodLink "java/lang/Enum" (29 : Nat) ({ cls := "java/lang/Object", name := "getClass", desc := "()Ljava/lang/Class;" } : Jvm.MethodName)) ∈ lw_all := lw_g (lw_at lw_m5 41 rfl) rfl
theorem q1082 : (Jvm.Cond.methodLink "java/lang/Enum" (33 : Nat) ({ cls := "java/lang/Enum", name := "getDeclaringClass", desc := "()Ljava/lang/Class;" } : Jvm.MethodName)) ∈ lw_all := lw_g (lw_at lw_m5 42 rfl) rfl
theorem q1083 : (Jvm.Cond.instanceMethod ({ cls := "java/lang/Enum", name := "getDeclaringClass", desc := "()Ljava/lang/Class;" } : Jvm.MethodName)) ∈ lw_all := lw_g (lw_at lw_m5 43 rfl) rfl
theorem q1084 : (Jvm.Cond.sameMethod "java/lang/Enum" "java/lang/Enum" "getDeclaringClass" "()Ljava/lang/Class;") ∈ lw_all := lw_g (lw_at lw_m5 44 rfl) rfl
theorem q1085 : (Jvm.Cond.selects "MasterTree$Kind$1" ({ cls := "java/lang/Enum", name := "getDeclaringClass", desc := "()Ljava/lang/Class;" } : Jvm.MethodName) ({ cls := "java/lang/Enum", name := "getDeclaringClass", desc := "()Ljava/lang/Class;" } : Jvm.MethodName)) ∈ lw_all := lw_g (lw_at lw_m5 45 rfl) rfl
theorem q1086 : (Jvm.Cond.selects "MasterTree$Kind$2" ({ cls := "java/lang/Enum", name := "getDeclaringClass", desc := "()Ljava/lang/Class;" } : Jvm.MethodName) ({ cls := "java/lang/Enum", name := "getDeclaringClass", desc := "()Ljava/lang/Class;" } : Jvm.MethodName)) ∈ lw_all := lw_g (lw_at lw_m5 46 rfl) rfl
theorem q1087 : (Jvm.Cond.selects "MasterTree$Kind$3" ({ cls := "java/lang/Enum", name := "getDeclaringClass", desc := "()Ljava/lang/Class;" } : Jvm.MethodName) ({ cls := "java/lang/Enum", name := "getDeclaringClass", desc := "()Ljava/lang/Class;" } : Jvm.MethodName)) ∈ lw_all := lw_g (lw_at lw_m5 47 rfl) rfl
theorem q1088 : (Jvm.Cond.selects "MasterTree$Kind$4" ({ cls := "java/lang/Enum", name := "getDeclaringClass", desc := "()Ljava/lang/Class;" } : Jvm.MethodName) ({ cls := "java/lang/Enum", name := "getDeclaringClass", desc := "()Ljava/lang/Class;" } : Jvm.MethodName)) ∈ lw_all := lw_g (lw_at lw_m5 48 rfl) rfl
theorem q1089 : (Jvm.Cond.selects "MasterTree$Kind$5" ({ cls := "java/lang/Enum", name := "getDeclaringClass", desc := "()Ljava/lang/Class;" } : Jvm.MethodName) ({ cls := "java/lang/Enum", name := "getDeclaringClass", desc := "()Ljava/lang/Class;" } : Jvm.MethodName)) ∈ lw_all := lw_g (lw_at lw_m5 49 rfl) rfl
theorem q1090 : (Jvm.Cond.selects "MasterTree$Kind$6" ({ cls := "java/lang/Enum", name := "getDeclaringClass", desc := "()Ljava/lang/Class;" } : Jvm.MethodName) ({ cls := "java/lang/Enum", name := "getDeclaringClass", desc := "()Ljava/lang/Class;" } : Jvm.MethodName)) ∈ lw_all := lw_g (lw_at lw_m5 50 rfl) rfl
theorem q1091 : (Jvm.Cond.selects "MasterTree$Kind$7" ({ cls := "java/lang/Enum", name := "getDeclaringClass", desc := "()Ljava/lang/Class;" } : Jvm.MethodName) ({ cls := "java/lang/Enum", name := "getDeclaringClass", desc := "()Ljava/lang/Class;" } : Jvm.MethodName)) ∈ lw_all := lw_g (lw_at lw_m5 51 rfl) rfl
theorem q1092 : (Jvm.Cond.selects "MasterTree$Kind$8" ({ cls := "java/lang/Enum", name := "getDeclaringClass", desc := "()Ljava/lang/Class;" } : Jvm.MethodName) ({ cls := "java/lang/Enum", name := "getDeclaringClass", desc := "()Ljava/lang/Class;" } : Jvm.MethodName)) ∈ lw_all := lw_g (lw_at lw_m5 52 rfl) rfl
theorem q1093 : (Jvm.Cond.selects "MasterTree$Kind$9" ({ cls := "java/lang/Enum", name := "getDeclaringClass", desc := "()Ljava/lang/Class;" } : Jvm.MethodName) ({ cls := "java/lang/Enum", name := "getDeclaringClass", desc := "()Ljava/lang/Class;" } : Jvm.MethodName)) ∈ lw_all := lw_g (lw_at lw_m5 53 rfl) rfl
theorem q1094 : (Jvm.Cond.code ({ cls := "java/lang/Enum", name := "getDeclaringClass", desc := "()Ljava/lang/Class;" } : Jvm.MethodName) prog_32_method_9_code (3 : Nat) (Option.some (Jvm.ClassFile.FieldType.object "java/lang/Class"))) ∈ lw_all := lw_g (lw_at lw_m5 54 rfl) rfl
theorem q1095 : (Jvm.Cond.castable "MasterTree$Kind$2" "java/lang/Comparable") ∈ lw_tbl := lw_at lw_m5 55 rfl
theorem q1096 : (Jvm.Cond.selects "MasterTree$Kind$2" ({ cls := "java/lang/Comparable", name := "compareTo", desc := "(Ljava/lang/Object;)I" } : Jvm.MethodName) ({ cls := "java/lang/Enum", name := "compareTo", desc := "(Ljava/lang/Object;)I" } : Jvm.MethodName)) ∈ lw_all := lw_g (lw_at lw_m5 56 rfl) rfl
theorem q1097 : (Jvm.Cond.unhidden "MasterTree$Kind$2" "compareTo" "(Ljava/lang/Object;)I") ∈ lw_tbl := lw_at lw_m5 57 rfl
theorem q1098 : (Jvm.Cond.castable "MasterTree$Kind$3" "java/lang/Comparable") ∈ lw_tbl := lw_at lw_m5 58 rfl
theorem q1099 : (Jvm.Cond.selects "MasterTree$Kind$3" ({ cls := "java/lang/Comparable", name := "compareTo", desc := "(Ljava/lang/Object;)I" } : Jvm.MethodName) ({ cls := "java/lang/Enum", name := "compareTo", desc := "(Ljava/lang/Object;)I" } : Jvm.MethodName)) ∈ lw_all := lw_g (lw_at lw_m5 59 rfl) rfl
theorem q1100 : (Jvm.Cond.unhidden "MasterTree$Kind$3" "compareTo" "(Ljava/lang/Object;)I") ∈ lw_tbl := lw_at lw_m5 60 rfl
theorem q1101 : (Jvm.Cond.castable "MasterTree$Kind$4" "java/lang/Comparable") ∈ lw_tbl := lw_at lw_m5 61 rfl
theorem q1102 : (Jvm.Cond.selects "MasterTree$Kind$4" ({ cls := "java/lang/Comparable", name := "compareTo", desc := "(Ljava/lang/Object;)I" } : Jvm.MethodName) ({ cls := "java/lang/Enum", name := "compareTo", desc := "(Ljava/lang/Object;)I" } : Jvm.MethodName)) ∈ lw_all := lw_g (lw_at lw_m5 62 rfl) rfl
theorem q1103 : (Jvm.Cond.unhidden "MasterTree$Kind$4" "compareTo" "(Ljava/lang/Object;)I") ∈ lw_tbl := lw_at lw_m5 63 rfl
theorem q1104 : (Jvm.Cond.castable "MasterTree$Kind$5" "java/lang/Comparable") ∈ lw_tbl := lw_at lw_m5 64 rfl
theorem q1105 : (Jvm.Cond.selects "MasterTree$Kind$5" ({ cls := "java/lang/Comparable", name := "compareTo", desc := "(Ljava/lang/Object;)I" } : Jvm.MethodName) ({ cls := "java/lang/Enum", name := "compareTo", desc := "(Ljava/lang/Object;)I" } : Jvm.MethodName)) ∈ lw_all := lw_g (lw_at lw_m5 65 rfl) rfl
theorem q1106 : (Jvm.Cond.unhidden "MasterTree$Kind$5" "compareTo" "(Ljava/lang/Object;)I") ∈ lw_tbl := lw_at lw_m5 66 rfl
theorem q1107 : (Jvm.Cond.castable "MasterTree$Kind$6" "java/lang/Comparable") ∈ lw_tbl := lw_at lw_m5 67 rfl
theorem q1108 : (Jvm.Cond.selects "MasterTree$Kind$6" ({ cls := "java/lang/Comparable", name := "compareTo", desc := "(Ljava/lang/Object;)I" } : Jvm.MethodName) ({ cls := "java/lang/Enum", name := "compareTo", desc := "(Ljava/lang/Object;)I" } : Jvm.MethodName)) ∈ lw_all := lw_g (lw_at lw_m5 68 rfl) rfl
theorem q1109 : (Jvm.Cond.unhidden "MasterTree$Kind$6" "compareTo" "(Ljava/lang/Object;)I") ∈ lw_tbl := lw_at lw_m5 69 rfl
theorem q1110 : (Jvm.Cond.castable "MasterTree$Kind$7" "java/lang/Comparable") ∈ lw_tbl := lw_at lw_m5 70 rfl
theorem q1111 : (Jvm.Cond.selects "MasterTree$Kind$7" ({ cls := "java/lang/Comparable", name := "compareTo", desc := "(Ljava/lang/Object;)I" } : Jvm.MethodName) ({ cls := "java/lang/Enum", name := "compareTo", desc := "(Ljava/lang/Object;)I" } : Jvm.MethodName)) ∈ lw_all := lw_g (lw_at lw_m5 71 rfl) rfl
theorem q1112 : (Jvm.Cond.unhidden "MasterTree$Kind$7" "compareTo" "(Ljava/lang/Object;)I") ∈ lw_tbl := lw_at lw_m5 72 rfl
theorem q1113 : (Jvm.Cond.castable "MasterTree$Kind$8" "java/lang/Comparable") ∈ lw_tbl := lw_at lw_m5 73 rfl
theorem q1114 : (Jvm.Cond.selects "MasterTree$Kind$8" ({ cls := "java/lang/Comparable", name := "compareTo", desc := "(Ljava/lang/Object;)I" } : Jvm.MethodName) ({ cls := "java/lang/Enum", name := "compareTo", desc := "(Ljava/lang/Object;)I" } : Jvm.MethodName)) ∈ lw_all := lw_g (lw_at lw_m5 74 rfl) rfl
theorem q1115 : (Jvm.Cond.unhidden "MasterTree$Kind$8" "compareTo" "(Ljava/lang/Object;)I") ∈ lw_tbl := lw_at lw_m5 75 rfl
theorem q1116 : (Jvm.Cond.castable "MasterTree$Kind$9" "java/lang/Comparable") ∈ lw_tbl := lw_at lw_m5 76 rfl
theorem q1117 : (Jvm.Cond.selects "MasterTree$Kind$9" ({ cls := "java/lang/Comparable", name := "compareTo", desc := "(Ljava/lang/Object;)I" } : Jvm.MethodName) ({ cls := "java/lang/Enum", name := "compareTo", desc := "(Ljava/lang/Object;)I" } : Jvm.MethodName)) ∈ lw_all := lw_g (lw_at lw_m5 77 rfl) rfl
theorem q1118 : (Jvm.Cond.unhidden "MasterTree$Kind$9" "compareTo" "(Ljava/lang/Object;)I") ∈ lw_tbl := lw_at lw_m5 78 rfl
theorem q1119 : (Jvm.Cond.castable "java/lang/Integer" "java/lang/Comparable") ∈ lw_tbl := lw_at lw_m5 79 rfl
theorem q1120 : (Jvm.Cond.selects "java/lang/Integer" ({ cls := "java/lang/Comparable", name := "compareTo", desc := "(Ljava/lang/Object;)I" } : Jvm.MethodName) ({ cls := "java/lang/Integer", name := "compareTo", desc := "(Ljava/lang/Object;)I" } : Jvm.MethodName)) ∈ lw_all := lw_g (lw_at lw_m5 80 rfl) rfl
theorem q1121 : (Jvm.Cond.unhidden "java/lang/Integer" "compareTo" "(Ljava/lang/Object;)I") ∈ lw_tbl := lw_at lw_m5 81 rfl
theorem q1122 : (Jvm.Cond.instanceMethod ({ cls := "java/lang/Integer", name := "compareTo", desc := "(Ljava/lang/Object;)I" } : Jvm.MethodName)) ∈ lw_all := lw_g (lw_at lw_m5 82 rfl) rfl
theorem q1123 : (Jvm.Cond.publicMethod ({ cls := "java/lang/Integer", name := "compareTo", desc := "(Ljava/lang/Object;)I" } : Jvm.MethodName)) ∈ lw_tbl := lw_at lw_m5 83 rfl
theorem q1124 : (Jvm.Cond.code ({ cls := "java/lang/Integer", name := "compareTo", desc := "(Ljava/lang/Object;)I" } : Jvm.MethodName) prog_37_method_63_code (2 : Nat) (Option.some Jvm.ClassFile.FieldType.int)) ∈ lw_all := lw_g (lw_at lw_m5 84 rfl) rfl
theorem q1125 : (Jvm.Cond.classLink "java/lang/Integer" (1 : Nat) "java/lang/Integer") ∈ lw_all := lw_g (lw_at lw_m5 85 rfl) rfl
theorem q1126 : (Jvm.Cond.methodLink "java/lang/Integer" (284 : Nat) ({ cls := "java/lang/Integer", name := "compareTo", desc := "(Ljava/lang/Integer;)I" } : Jvm.MethodName)) ∈ lw_all := lw_g (lw_at lw_m5 86 rfl) rfl
theorem q1127 : (Jvm.Cond.instanceMethod ({ cls := "java/lang/Integer", name := "compareTo", desc := "(Ljava/lang/Integer;)I" } : Jvm.MethodName)) ∈ lw_all := lw_g (lw_at lw_m5 87 rfl) rfl
theorem q1128 : (Jvm.Cond.selects "java/lang/Integer" ({ cls := "java/lang/Integer", name := "compareTo", desc := "(Ljava/lang/Integer;)I" } : Jvm.MethodName) ({ cls := "java/lang/Integer", name := "compareTo", desc := "(Ljava/lang/Integer;)I" } : Jvm.MethodName)) ∈ lw_all := lw_g (lw_at lw_m5 88 rfl) rfl
theorem q1129 : (Jvm.Cond.code ({ cls := "java/lang/Integer", name := "compareTo", desc := "(Ljava/lang/Integer;)I" } : Jvm.MethodName) prog_37_method_39_code (2 : Nat) (Option.some Jvm.ClassFile.FieldType.int)) ∈ lw_all := lw_g (lw_at lw_m5 89 rfl) rfl
theorem q1130 : (Jvm.Cond.methodLink "java/lang/Integer" (259 : Nat) ({ cls := "java/lang/Integer", name := "compare", desc := "(II)I" } : Jvm.MethodName)) ∈ lw_all := lw_g (lw_at lw_m5 90 rfl) rfl
theorem q1131 : (Jvm.Cond.castable "java/lang/Long" "java/lang/Comparable") ∈ lw_tbl := lw_at lw_m5 91 rfl
theorem q1132 : (Jvm.Cond.selects "java/lang/Long" ({ cls := "java/lang/Comparable", name := "compareTo", desc := "(Ljava/lang/Object;)I" } : Jvm.MethodName) ({ cls := "java/lang/Long", name := "compareTo", desc := "(Ljava/lang/Object;)I" } : Jvm.MethodName)) ∈ lw_all := lw_g (lw_at lw_m5 92 rfl) rfl
theorem q1133 : (Jvm.Cond.unhidden "java/lang/Long" "compareTo" "(Ljava/lang/Object;)I") ∈ lw_tbl := lw_at lw_m5 93 rfl
theorem q1134 : (Jvm.Cond.instanceMethod ({ cls := "java/lang/Long", name := "compareTo", desc := "(Ljava/lang/Object;)I" } : Jvm.MethodName)) ∈ lw_all := lw_g (lw_at lw_m5 94 rfl) rfl
theorem q1135 : (Jvm.Cond.publicMethod ({ cls := "java/lang/Long", name := "compareTo", desc := "(Ljava/lang/Object;)I" } : Jvm.MethodName)) ∈ lw_tbl := lw_at lw_m5 95 rfl
theorem q1136 : (Jvm.Cond.code ({ cls := "java/lang/Long", name := "compareTo", desc := "(Ljava/lang/Object;)I" } : Jvm.MethodName) prog_40_method_64_code (2 : Nat) (Option.some Jvm.ClassFile.FieldType.int)) ∈ lw_all := lw_g (lw_at lw_m5 96 rfl) rfl
theorem q1137 : (Jvm.Cond.classLink "java/lang/Long" (1 : Nat) "java/lang/Long") ∈ lw_all := lw_g (lw_at lw_m5 97 rfl) rfl
theorem q1138 : (Jvm.Cond.methodLink "java/lang/Long" (343 : Nat) ({ cls := "java/lang/Long", name := "compareTo", desc := "(Ljava/lang/Long;)I" } : Jvm.MethodName)) ∈ lw_all := lw_g (lw_at lw_m5 98 rfl) rfl
theorem q1139 : (Jvm.Cond.instanceMethod ({ cls := "java/lang/Long", name := "compareTo", desc := "(Ljava/lang/Long;)I" } : Jvm.MethodName)) ∈ lw_all := lw_g (lw_at lw_m5 99 rfl) rfl
theorem q1140 : (Jvm.Cond.selects "java/lang/Long" ({ cls := "java/lang/Long", name := "compareTo", desc := "(Ljava/lang/Long;)I" } : Jvm.MethodName) ({ cls := "java/lang/Long", name := "compareTo", desc := "(Ljava/lang/Long;)I" } : Jvm.MethodName)) ∈ lw_all := lw_g (lw_at lw_m5 100 rfl) rfl
theorem q1141 : (Jvm.Cond.code ({ cls := "java/lang/Long", name := "compareTo", desc := "(Ljava/lang/Long;)I" } : Jvm.MethodName) prog_40_method_41_code (2 : Nat) (Option.some Jvm.ClassFile.FieldType.int)) ∈ lw_all := lw_g (lw_at lw_m5 101 rfl) rfl
theorem q1142 : (Jvm.Cond.methodLink "java/lang/Long" (302 : Nat) ({ cls := "java/lang/Long", name := "compare", desc := "(JJ)I" } : Jvm.MethodName)) ∈ lw_all := lw_g (lw_at lw_m5 102 rfl) rfl
theorem q1143 : (Jvm.Cond.static ({ cls := "java/lang/Long", name := "compare", desc := "(JJ)I" } : Jvm.MethodName)) ∈ lw_all := lw_g (lw_at lw_m5 103 rfl) rfl
theorem q1144 : (Jvm.Cond.code ({ cls := "java/lang/Long", name := "compare", desc := "(JJ)I" } : Jvm.MethodName) prog_40_method_42_code (4 : Nat) (Option.some Jvm.ClassFile.FieldType.int)) ∈ lw_all := lw_g (lw_at lw_m5 104 rfl) rfl
theorem q1145 : (Jvm.Cond.castable "java/lang/String" "java/lang/Comparable") ∈ lw_tbl := lw_at lw_m5 105 rfl
theorem q1146 : (Jvm.Cond.selects "java/lang/String" ({ cls := "java/lang/Comparable", name := "compareTo", desc := "(Ljava/lang/Object;)I" } : Jvm.MethodName) ({ cls := "java/lang/String", name := "compareTo", desc := "(Ljava/lang/Object;)I" } : Jvm.MethodName)) ∈ lw_all := lw_g (lw_at lw_m5 106 rfl) rfl
theorem q1147 : (Jvm.Cond.unhidden "java/lang/String" "compareTo" "(Ljava/lang/Object;)I") ∈ lw_tbl := lw_at lw_m5 107 rfl
theorem q1148 : (Jvm.Cond.instanceMethod ({ cls := "java/lang/String", name := "compareTo", desc := "(Ljava/lang/Object;)I" } : Jvm.MethodName)) ∈ lw_all := lw_g (lw_at lw_m5 108 rfl) rfl
theorem q1149 : (Jvm.Cond.publicMethod ({ cls := "java/lang/String", name := "compareTo", desc := "(Ljava/lang/Object;)I" } : Jvm.MethodName)) ∈ lw_tbl := lw_at lw_m5 109 rfl
theorem q1150 : (Jvm.Cond.code ({ cls := "java/lang/String", name := "compareTo", desc := "(Ljava/lang/Object;)I" } : Jvm.MethodName) prog_45_method_162_code (2 : Nat) (Option.some Jvm.ClassFile.FieldType.int)) ∈ lw_all := lw_g (lw_at lw_m5 110 rfl) rfl
theorem q1151 : (Jvm.Cond.classLink "java/lang/String" (10 : Nat) "java/lang/String") ∈ lw_all := lw_g (lw_at lw_m5 111 rfl) rfl
theorem q1152 : (Jvm.Cond.methodLink "java/lang/String" (1084 : Nat) ({ cls := "java/lang/String", name := "compareTo", desc := "(Ljava/lang/String;)I" } : Jvm.MethodName)) ∈ lw_all := lw_g (lw_at lw_m5 112 rfl) rfl
theorem q1153 : (Jvm.Cond.instanceMethod ({ cls := "java/lang/String", name := "compareTo", desc := "(Ljava/lang/String;)I" } : Jvm.MethodName)) ∈ lw_all := lw_g (lw_at lw_m5 113 rfl) rfl
theorem q1154 : (Jvm.Cond.selects "java/lang/String" ({ cls := "java/lang/String", name := "compareTo", desc := "(Ljava/lang/String;)I" } : Jvm.MethodName) ({ cls := "java/lang/String", name := "compareTo", desc := "(Ljava/lang/String;)I" } : Jvm.MethodName)) ∈ lw_all := lw_g (lw_at lw_m5 114 rfl) rfl
theorem q1155 : (Jvm.Cond.code ({ cls := "java/lang/String", name := "compareTo", desc := "(Ljava/lang/String;)I" } : Jvm.MethodName) prog_45_method_71_code (5 : Nat) (Option.some Jvm.ClassFile.FieldType.int)) ∈ lw_all := lw_g (lw_at lw_m5 115 rfl) rfl
theorem q1156 : (Jvm.Cond.methodLink "java/lang/String" (586 : Nat) ({ cls := "java/lang/StringLatin1", name := "compareTo", desc := "([B[B)I" } : Jvm.MethodName)) ∈ lw_all := lw_g (lw_at lw_m5 116 rfl) rfl
theorem q1157 : (Jvm.Cond.static ({ cls := "java/lang/StringLatin1", name := "compareTo", desc := "([B[B)I" } : Jvm.MethodName)) ∈ lw_all := lw_g (lw_at lw_m5 117 rfl) rfl
theorem q1158 : (Jvm.Cond.code ({ cls := "java/lang/StringLatin1", name := "compareTo", desc := "([B[B)I" } : Jvm.MethodName) prog_47_method_14_code (4 : Nat) (Option.some Jvm.ClassFile.FieldType.int)) ∈ lw_all := lw_g (lw_at lw_m5 118 rfl) rfl
theorem q1159 : (Jvm.Cond.methodLink "java/lang/StringLatin1" (34 : Nat) ({ cls := "java/lang/StringLatin1", name := "compareTo", desc := "([B[BII)I" } : Jvm.MethodName)) ∈ lw_all := lw_g (lw_at lw_m5 119 rfl) rfl
theorem q1160 : (Jvm.Cond.static ({ cls := "java/lang/StringLatin1", name := "compareTo", desc := "([B[BII)I" } : Jvm.MethodName)) ∈ lw_all := lw_g (lw_at lw_m5 120 rfl) rfl
theorem q1161 : (Jvm.Cond.code ({ cls := "java/lang/StringLatin1", name := "compareTo", desc := "([B[BII)I" } : Jvm.MethodName) prog_47_method_15_code (6 : Nat) (Option.some Jvm.ClassFile.FieldType.int)) ∈ lw_all := lw_g (lw_at lw_m5 121 rfl) rfl
theorem q1162 : (Jvm.Cond.methodLink "java/lang/StringLatin1" (38 : Nat) ({ cls := "java/lang/Math", name := "min", desc := "(II)I" } : Jvm.MethodName)) ∈ lw_all := lw_g (lw_at lw_m5 122 rfl) rfl
theorem q1163 : (Jvm.Cond.methodLink "java/lang/StringLatin1" (44 : Nat) ({ cls := "jdk/internal/util/ArraysSupport", name := "mismatch", desc := "([B[BI)I" } : Jvm.MethodName)) ∈ lw_all := lw_g (lw_at lw_m5 123 rfl) rfl
theorem q1164 : (Jvm.Cond.static ({ cls := "jdk/internal/util/ArraysSupport", name := "mismatch", desc := "([B[BI)I" } : Jvm.MethodName)) ∈ lw_all := lw_g (lw_at lw_m5 124 rfl) rfl
theorem q1165 : (Jvm.Cond.code ({ cls := "jdk/internal/util/ArraysSupport", name := "mismatch", desc := "([B[BI)I" } : Jvm.MethodName) prog_97_method_13_code (4 : Nat) (Option.some Jvm.ClassFile.FieldType.int)) ∈ lw_all := lw_g (lw_at lw_m5 125 rfl) rfl
theorem q1166 : (Jvm.Cond.fieldLink "jdk/internal/util/ArraysSupport" (126 : Nat) "jdk/internal/misc/Unsafe" "ARRAY_BYTE_BASE_OFFSET" "I") ∈ lw_all := lw_g (lw_at lw_m5 126 rfl) rfl
theorem q1167 : (Jvm.Cond.laysStatic "jdk/internal/misc/Unsafe" "ARRAY_BYTE_BASE_OFFSET" "I") ∈ lw_tbl := lw_at lw_m5 127 rfl
theorem q1168 : (Jvm.Cond.fieldLink "jdk/internal/util/ArraysSupport" (129 : Nat) "jdk/internal/util/ArraysSupport" "LOG2_ARRAY_BYTE_INDEX_SCALE" "I") ∈ lw_all := lw_g (lw_at lw_m5 128 rfl) rfl
theorem q1169 : (Jvm.Cond.laysStatic "jdk/internal/util/ArraysSupport" "LOG2_ARRAY_BYTE_INDEX_SCALE" "I") ∈ lw_tbl := lw_at lw_m5 129 rfl
theorem q1170 : (Jvm.Cond.methodLink "jdk/internal/util/ArraysSupport" (122 : Nat) ({ cls := "jdk/internal/util/ArraysSupport", name := "vectorizedMismatch", desc := "(Ljava/lang/Object;JLjava/lang/Object;JII)I" } : Jvm.MethodName)) ∈ lw_all := lw_g (lw_at lw_m5 130 rfl) rfl
theorem q1171 : (Jvm.Cond.static ({ cls := "jdk/internal/util/ArraysSupport", name := "vectorizedMismatch", desc := "(Ljava/lang/Object;JLjava/lang/Object;JII)I" } : Jvm.MethodName)) ∈ lw_all := lw_g (lw_at lw_m5 131 rfl) rfl
theorem q1172 : (Jvm.Cond.code ({ cls := "jdk/internal/util/ArraysSupport", name := "vectorizedMismatch", desc := "(Ljava/lang/Object;JLjava/lang/Object;JII)I" } : Jvm.MethodName) prog_97_method_3_code (19 : Nat) (Option.some Jvm.ClassFile.FieldType.int)) ∈ lw_all := lw_g (lw_at lw_m5 132 rfl) rfl
theorem q1173 : (Jvm.Cond.fieldLink "jdk/internal/util/ArraysSupport" (20 : Nat) "jdk/internal/util/ArraysSupport" "LOG2_ARRAY_LONG_INDEX_SCALE" "I") ∈ lw_all := lw_g (lw_at lw_m5 133 rfl) rfl
theorem q1174 : (Jvm.Cond.laysStatic "jdk/internal/util/ArraysSupport" "LOG2_ARRAY_LONG_INDEX_SCALE" "I") ∈ lw_tbl := lw_at lw_m5 134 rfl
theorem q1175 : (Jvm.Cond.fieldLink "jdk/internal/util/ArraysSupport" (26 : Nat) "jdk/internal/util/ArraysSupport" "U" "Ljdk/internal/misc/Unsafe;") ∈ lw_all := lw_g (lw_at lw_m5 135 rfl) rfl
theorem q1176 : (Jvm.Cond.laysStatic "jdk/internal/util/ArraysSupport" "U" "Ljdk/internal/misc/Unsafe;") ∈ lw_tbl := lw_at lw_m5 136 rfl
theorem q1177 : (Jvm.Cond.methodLink "jdk/internal/util/ArraysSupport" (30 : Nat) ({ cls := "jdk/internal/misc/Unsafe", name := "getLongUnaligned", desc := "(Ljava/lang/Object;J)J" } : Jvm.MethodName)) ∈ lw_all := lw_g (lw_at lw_m5 137 rfl) rfl
theorem q1178 : (Jvm.Cond.instanceMethod ({ cls := "jdk/internal/misc/Unsafe", name := "getLongUnaligned", desc := "(Ljava/lang/Object;J)J" } : Jvm.MethodName)) ∈ lw_all := lw_g (lw_at lw_m5 138 rfl) rfl
theorem q1179 : (Jvm.Cond.selects "jdk/internal/misc/Unsafe" ({ cls := "jdk/internal/misc/Unsafe", name := "getLongUnaligned", desc := "(Ljava/lang/Object;J)J" } : Jvm.MethodName) ({ cls := "jdk/internal/misc/Unsafe", name := "getLongUnaligned", desc := "(Ljava/lang/Object;J)J" } : Jvm.MethodName)) ∈ lw_all := lw_g (lw_at lw_m5 139 rfl) rfl
theorem q1180 : (Jvm.Cond.code ({ cls := "jdk/internal/misc/Unsafe", name := "getLongUnaligned", desc := "(Ljava/lang/Object;J)J" } : Jvm.MethodName) prog_95_method_334_code (4 : Nat) (Option.some Jvm.ClassFile.FieldType.long)) ∈ lw_all := lw_g (lw_at lw_m5 140 rfl) rfl
theorem q1181 : (Jvm.Cond.constantLong "jdk/internal/misc/Unsafe" (696 : Nat) (7 : Int64)) ∈ lw_all := lw_g (lw_at lw_m5 141 rfl) rfl
theorem q1182 : (Jvm.Cond.methodLink "jdk/internal/misc/Unsafe" (27 : Nat) ({ cls := "jdk/internal/misc/Unsafe", name := "getLong", desc := "(Ljava/lang/Object;J)J" } : Jvm.MethodName)) ∈ lw_all := lw_g (lw_at lw_m5 142 rfl) rfl
theorem q1183 : (Jvm.Cond.instanceMethod ({ cls := "jdk/internal/misc/Unsafe", name := "getLong", desc := "(Ljava/lang/Object;J)J" } : Jvm.MethodName)) ∈ lw_all := lw_g (lw_at lw_m5 143 rfl) rfl
theorem q1184 : (Jvm.Cond.selects "jdk/internal/misc/Unsafe" ({ cls := "jdk/internal/misc/Unsafe", name := "getLong", desc := "(Ljava/lang/Object;J)J" } : Jvm.MethodName) ({ cls := "jdk/internal/misc/Unsafe", name := "getLong", desc := "(Ljava/lang/Object;J)J" } : Jvm.MethodName)) ∈ lw_all := lw_g (lw_at lw_m5 144 rfl) rfl
theorem q1185 : (Jvm.Cond.native ({ cls := "jdk/internal/misc/Unsafe", name := "getLong", desc := "(Ljava/lang/Object;J)J" } : Jvm.MethodName)) ∈ lw_all := lw_g (lw_at lw_m5 145 rfl) rfl
theorem q1186 : (Jvm.Cond.constantLong "jdk/internal/misc/Unsafe" (349 : Nat) (3 : Int64)) ∈ lw_all := lw_g (lw_at lw_m5 146 rfl) rfl
theorem q1187 : (Jvm.Cond.methodLink "jdk/internal/misc/Unsafe" (17 : Nat) ({ cls := "jdk/internal/misc/Unsafe", name := "getInt", desc := "(Ljava/lang/Object;J)I" } : Jvm.MethodName)) ∈ lw_all := lw_g (lw_at lw_m5 147 rfl) rfl
theorem q1188 : (Jvm.Cond.instanceMethod ({ cls := "jdk/internal/misc/Unsafe", name := "getInt", desc := "(Ljava/lang/Object;J)I" } : Jvm.MethodName)) ∈ lw_all := lw_g (lw_at lw_m5 148 rfl) rfl
theorem q1189 : (Jvm.Cond.selects "jdk/internal/misc/Unsafe" ({ cls := "jdk/internal/misc/Unsafe", name := "getInt", desc := "(Ljava/lang/Object;J)I" } : Jvm.MethodName) ({ cls := "jdk/internal/misc/Unsafe", name := "getInt", desc := "(Ljava/lang/Object;J)I" } : Jvm.MethodName)) ∈ lw_all := lw_g (lw_at lw_m5 149 rfl) rfl
theorem q1190 : (Jvm.Cond.native ({ cls := "jdk/internal/misc/Unsafe", name := "getInt", desc := "(Ljava/lang/Object;J)I" } : Jvm.MethodName)) ∈ lw_all := lw_g (lw_at lw_m5 150 rfl) rfl
theorem q1191 : (Jvm.Cond.constantLong "jdk/internal/misc/Unsafe" (205 : Nat) (4 : Int64)) ∈ lw_all := lw_g (lw_at lw_m5 151 rfl) rfl
theorem q1192 : (Jvm.Cond.methodLink "jdk/internal/misc/Unsafe" (698 : Nat) ({ cls := "jdk/internal/misc/Unsafe", name := "makeLong", desc := "(II)J" } : Jvm.MethodName)) ∈ lw_all := lw_g (lw_at lw_m5 152 rfl) rfl
theorem q1193 : (Jvm.Cond.static ({ cls := "jdk/internal/misc/Unsafe", name := "makeLong", desc := "(II)J" } : Jvm.MethodName)) ∈ lw_all := lw_g (lw_at lw_m5 153 rfl) rfl
theorem q1194 : (Jvm.Cond.code ({ cls := "jdk/internal/misc/Unsafe", name := "makeLong", desc := "(II)J" } : Jvm.MethodName) prog_95_method_353_code (2 : Nat) (Option.some Jvm.ClassFile.FieldType.long)) ∈ lw_all := lw_g (lw_at lw_m5 154 rfl) rfl
theorem q1195 : (Jvm.Cond.methodLink "jdk/internal/misc/Unsafe" (791 : Nat) ({ cls := "jdk/internal/misc/Unsafe", name := "toUnsignedLong", desc := "(I)J" } : Jvm.MethodName)) ∈ lw_all := lw_g (lw_at lw_m5 155 rfl) rfl
theorem q1196 : (Jvm.Cond.static ({ cls := "jdk/internal/misc/Unsafe", name := "toUnsignedLong", desc := "(I)J" } : Jvm.MethodName)) ∈ lw_all := lw_g (lw_at lw_m5 156 rfl) rfl
theorem q1197 : (Jvm.Cond.code ({ cls := "jdk/internal/misc/Unsafe", name := "toUnsignedLong", desc := "(I)J" } : Jvm.MethodName) prog_95_method_370_code (1 : Nat) (Option.some Jvm.ClassFile.FieldType.long)) ∈ lw_all := lw_g (lw_at lw_m5 157 rfl) rfl
theorem q1198 : (Jvm.Cond.constantLong "jdk/internal/misc/Unsafe" (812 : Nat) (4294967295 : Int64)) ∈ lw_all := lw_g (lw_at lw_m5 158 rfl) rfl
theorem q1199 : (Jvm.Cond.methodLink "jdk/internal/misc/Unsafe" (784 : Nat) ({ cls := "jdk/internal/misc/Unsafe", name := "pickPos", desc := "(II)I" } : Jvm.MethodName)) ∈ lw_all := lw_g (lw_at lw_m5 159 rfl) rfl
theorem q1200 : (Jvm.Cond.static ({ cls := "jdk/internal/misc/Unsafe", name := "pickPos", desc := "(II)I" } : Jvm.MethodName)) ∈ lw_all := lw_g (lw_at lw_m5 160 rfl) rfl
theorem q1201 : (Jvm.Cond.code ({ cls := "jdk/internal/misc/Unsafe", name := "pickPos", desc := "(II)I" } : Jvm.MethodName) prog_95_method_350_code (2 : Nat) (Option.some Jvm.ClassFile.FieldType.int)) ∈ lw_all := lw_g (lw_at lw_m5 161 rfl) rfl
theorem q1202 : (Jvm.Cond.fieldLink "jdk/internal/misc/Unsafe" (351 : Nat) "jdk/internal/misc/UnsafeConstants" "BIG_ENDIAN" "Z") ∈ lw_all := lw_g (lw_at lw_m5 162 rfl) rfl
theorem q1203 : (Jvm.Cond.laysStatic "jdk/internal/misc/UnsafeConstants" "BIG_ENDIAN" "Z") ∈ lw_tbl := lw_at lw_m5 163 rfl
theorem q1204 : (Jvm.Cond.methodLink "jdk/internal/misc/Unsafe" (47 : Nat) ({ cls := "jdk/internal/misc/Unsafe", name := "getShort", desc := "(Ljava/lang/Object;J)S" } : Jvm.MethodName)) ∈ lw_all := lw_g (lw_at lw_m5 164 rfl) rfl
theorem q1205 : (Jvm.Cond.instanceMethod ({ cls := "jdk/internal/misc/Unsafe", name := "getShort", desc := "(Ljava/lang/Object;J)S" } : Jvm.MethodName)) ∈ lw_all := lw_g (lw_at lw_m5 165 rfl) rfl
theorem q1206 : (Jvm.Cond.selects "jdk/internal/misc/Unsafe" ({ cls := "jdk/internal/misc/Unsafe", name := "getShort", desc := "(Ljava/lang/Object;J)S" } : Jvm.MethodName) ({ cls := "jdk/internal/misc/Unsafe", name := "getShort", desc := "(Ljava/lang/Object;J)S" } : Jvm.MethodName)) ∈ lw_all := lw_g (lw_at lw_m5 166 rfl) rfl
theorem q1207 : (Jvm.Cond.native ({ cls := "jdk/internal/misc/Unsafe", name := "getShort", desc := "(Ljava/lang/Object;J)S" } : Jvm.MethodName)) ∈ lw_all := lw_g (lw_at lw_m5 167 rfl) rfl
theorem q1208 : (Jvm.Cond.constantLong "jdk/internal/misc/Unsafe" (203 : Nat) (2 : Int64)) ∈ lw_all := lw_g (lw_at lw_m5 168 rfl) rfl
theorem q1209 : (Jvm.Cond.constantLong "jdk/internal/misc/Unsafe" (702 : Nat) (6 : Int64)) ∈ lw_all := lw_g (lw_at lw_m5 169 rfl) rfl
theorem q1210 : (Jvm.Cond.methodLink "jdk/internal/misc/Unsafe" (704 : Nat) ({ cls := "jdk/internal/misc/Unsafe", name := "makeLong", desc := "(SSSS)J" } : Jvm.MethodName)) ∈ lw_all := lw_g (lw_at lw_m5 170 rfl) rfl
theorem q1211 : (Jvm.Cond.static ({ cls := "jdk/internal/misc/Unsafe", name := "makeLong", desc := "(SSSS)J" } : Jvm.MethodName)) ∈ lw_all := lw_g (lw_at lw_m5 171 rfl) rfl
theorem q1212 : (Jvm.Cond.code ({ cls := "jdk/internal/misc/Unsafe", name := "makeLong", desc := "(SSSS)J" } : Jvm.MethodName) prog_95_method_352_code (4 : Nat) (Option.some Jvm.ClassFile.FieldType.long)) ∈ lw_all := lw_g (lw_at lw_m5 172 rfl) rfl
theorem q1213 : (Jvm.Cond.methodLink "jdk/internal/misc/Unsafe" (788 : Nat) ({ cls := "jdk/internal/misc/Unsafe", name := "toUnsignedLong", desc := "(S)J" } : Jvm.MethodName)) ∈ lw_all := lw_g (lw_at lw_m5 173 rfl) rfl
theorem q1214 : (Jvm.Cond.static ({ cls := "jdk/internal/misc/Unsafe", name := "toUnsignedLong", desc := "(S)J" } : Jvm.MethodName)) ∈ lw_all := lw_g (lw_at lw_m5 174 rfl) rfl
theorem q1215 : (Jvm.Cond.code ({ cls := "jdk/internal/misc/Unsafe", name := "toUnsignedLong", desc := "(S)J" } : Jvm.MethodName) prog_95_method_369_code (1 : Nat) (Option.some Jvm.ClassFile.FieldType.long)) ∈ lw_all := lw_g (lw_at lw_m5 175 rfl) rfl
theorem q1216 : (Jvm.Cond.constantLong "jdk/internal/misc/Unsafe" (810 : Nat) (65535 : Int64)) ∈ lw_all := lw_g (lw_at lw_m5 176 rfl) rfl
theorem q1217 : (Jvm.Cond.methodLink "jdk/internal/misc/Unsafe" (39 : Nat) ({ cls := "jdk/internal/misc/Unsafe", name := "getByte", desc := "(Ljava/lang/Object;J)B" } : Jvm.MethodName)) ∈ lw_all := lw_g (lw_at lw_m5 177 rfl) rfl
theorem q1218 : (Jvm.Cond.instanceMethod ({ cls := "jdk/internal/misc/Unsafe", name := "getByte", desc := "(Ljava/lang/Object;J)B" } : Jvm.MethodName)) ∈ lw_all := lw_g (lw_at lw_m5 178 rfl) rfl
theorem q1219 : (Jvm.Cond.selects "jdk/internal/misc/Unsafe" ({ cls := "jdk/internal/misc/Unsafe", name := "getByte", desc := "(Ljava/lang/Object;J)B" } : Jvm.MethodName) ({ cls := "jdk/internal/misc/Unsafe", name := "getByte", desc := "(Ljava/lang/Object;J)B" } : Jvm.MethodName)) ∈ lw_all := lw_g (lw_at lw_m5 179 rfl) rfl
theorem q1220 : (Jvm.Cond.native ({ cls := "jdk/internal/misc/Unsafe", name := "getByte", desc := "(Ljava/lang/Object;J)B" } : Jvm.MethodName)) ∈ lw_all := lw_g (lw_at lw_m5 180 rfl) rfl
theorem q1221 : (Jvm.Cond.constantLong "jdk/internal/misc/Unsafe" (707 : Nat) (5 : Int64)) ∈ lw_all := lw_g (lw_at lw_m5 181 rfl) rfl
theorem q1222 : (Jvm.Cond.methodLink "jdk/internal/misc/Unsafe" (709 : Nat) ({ cls := "jdk/internal/misc/Unsafe", name := "makeLong", desc := "(BBBBBBBB)J" } : Jvm.MethodName)) ∈ lw_all := lw_g (lw_at lw_m5 182 rfl) rfl
theorem q1223 : (Jvm.Cond.static ({ cls := "jdk/internal/misc/Unsafe", name := "makeLong", desc := "(BBBBBBBB)J" } : Jvm.MethodName)) ∈ lw_all := lw_g (lw_at lw_m5 183 rfl) rfl
theorem q1224 : (Jvm.Cond.code ({ cls := "jdk/internal/misc/Unsafe", name := "makeLong", desc := "(BBBBBBBB)J" } : Jvm.MethodName) prog_95_method_351_code (8 : Nat) (Option.some Jvm.ClassFile.FieldType.long)) ∈ lw_all := lw_g (lw_at lw_m5 184 rfl) rfl
theorem q1225 : (Jvm.Cond.methodLink "jdk/internal/misc/Unsafe" (781 : Nat) ({ cls := "jdk/internal/misc/Unsafe", name := "toUnsignedLong", desc := "(B)J" } : Jvm.MethodName)) ∈ lw_all := lw_g (lw_at lw_m5 185 rfl) rfl
theorem q1226 : (Jvm.Cond.static ({ cls := "jdk/internal/misc/Unsafe", name := "toUnsignedLong", desc := "(B)J" } : Jvm.MethodName)) ∈ lw_all := lw_g (lw_at lw_m5 186 rfl) rfl
theorem q1227 : (Jvm.Cond.code ({ cls := "jdk/internal/misc/Unsafe", name := "toUnsignedLong", desc := "(B)J" } : Jvm.MethodName) prog_95_method_368_code (1 : Nat) (Option.some Jvm.ClassFile.FieldType.long)) ∈ lw_all := lw_g (lw_at lw_m5 187 rfl) rfl
theorem q1228 : (Jvm.Cond.constantLong "jdk/internal/misc/Unsafe" (808 : Nat) (255 : Int64)) ∈ lw_all := lw_g (lw_at lw_m5 188 rfl) rfl
theorem q1229 : (Jvm.Cond.fieldLink "jdk/internal/util/ArraysSupport" (36 : Nat) "jdk/internal/util/ArraysSupport" "BIG_ENDIAN" "Z") ∈ lw_all := lw_g (lw_at lw_m5 189 rfl) rfl
theorem q1230 : (Jvm.Cond.laysStatic "jdk/internal/util/ArraysSupport" "BIG_ENDIAN" "Z") ∈ lw_tbl := lw_at lw_m5 190 rfl
theorem q1231 : (Jvm.Cond.methodLink "jdk/internal/util/ArraysSupport" (40 : Nat) ({ cls := "java/lang/Long", name := "numberOfLeadingZeros", desc := "(J)I" } : Jvm.MethodName)) ∈ lw_all := lw_g (lw_at lw_m5 191 rfl) rfl
theorem q1232 : (Jvm.Cond.static ({ cls := "java/lang/Long", name := "numberOfLeadingZeros", desc := "(J)I" } : Jvm.MethodName)) ∈ lw_all := lw_g (lw_at lw_m5 192 rfl) rfl
theorem q1233 : (Jvm.Cond.code ({ cls := "java/lang/Long", name := "numberOfLeadingZeros", desc := "(J)I" } : Jvm.MethodName) prog_40_method_48_code (3 : Nat) (Option.some Jvm.ClassFile.FieldType.int)) ∈ lw_all := lw_g (lw_at lw_m5 193 rfl) rfl
theorem q1234 : (Jvm.Cond.methodLink "java/lang/Long" (308 : Nat) ({ cls := "java/lang/Integer", name := "numberOfLeadingZeros", desc := "(I)I" } : Jvm.MethodName)) ∈ lw_all := lw_g (lw_at lw_m5 194 rfl) rfl
theorem q1235 : (Jvm.Cond.static ({ cls := "java/lang/Integer", name := "numberOfLeadingZeros", desc := "(I)I" } : Jvm.MethodName)) ∈ lw_all := lw_g (lw_at lw_m5 195 rfl) rfl
theorem q1236 : (Jvm.Cond.code ({ cls := "java/lang/Integer", name := "numberOfLeadingZeros", desc := "(I)I" } : Jvm.MethodName) prog_37_method_47_code (2 : Nat) (Option.some Jvm.ClassFile.FieldType.int)) ∈ lw_all := lw_g (lw_at lw_m5 196 rfl) rfl
theorem q1237 : (Jvm.Cond.constant "java/lang/Integer" (264 : Nat) (65536 : Int32)) ∈ lw_all := lw_g (lw_at lw_m5 197 rfl) rfl
theorem q1238 : (Jvm.Cond.fieldLink "jdk/internal/util/ArraysSupport" (46 : Nat) "jdk/internal/util/ArraysSupport" "LOG2_BYTE_BIT_SIZE" "I") ∈ lw_all := lw_g (lw_at lw_m5 198 rfl) rfl
theorem q1239 : (Jvm.Cond.laysStatic "jdk/internal/util/ArraysSupport" "LOG2_BYTE_BIT_SIZE" "I") ∈ lw_tbl := lw_at lw_m5 199 rfl
theorem q1240 : (Jvm.Cond.methodLink "jdk/internal/util/ArraysSupport" (49 : Nat) ({ cls := "java/lang/Long", name := "numberOfTrailingZeros", desc := "(J)I" } : Jvm.MethodName)) ∈ lw_all := lw_g (lw_at lw_m5 200 rfl) rfl
theorem q1241 : (Jvm.Cond.static ({ cls := "java/lang/Long", name := "numberOfTrailingZeros", desc := "(J)I" } : Jvm.MethodName)) ∈ lw_all := lw_g (lw_at lw_m5 201 rfl) rfl
theorem q1242 : (Jvm.Cond.code ({ cls := "java/lang/Long", name := "numberOfTrailingZeros", desc := "(J)I" } : Jvm.MethodName) prog_40_method_49_code (3 : Nat) (Option.some Jvm.ClassFile.FieldType.int)) ∈ lw_all := lw_g (lw_at lw_m5 202 rfl) rfl
theorem q1243 : (Jvm.Cond.methodLink "java/lang/Long" (311 : Nat) ({ cls := "java/lang/Integer", name := "numberOfTrailingZeros", desc := "(I)I" } : Jvm.MethodName)) ∈ lw_all := lw_g (lw_at lw_m5 203 rfl) rfl
theorem q1244 : (Jvm.Cond.static ({ cls := "java/lang/Integer", name := "numberOfTrailingZeros", desc := "(I)I" } : Jvm.MethodName)) ∈ lw_all := lw_g (lw_at lw_m5 204 rfl) rfl
theorem q1245 : (Jvm.Cond.code ({ cls := "java/lang/Integer", name := "numberOfTrailingZeros", desc := "(I)I" } : Jvm.MethodName) prog_37_method_48_code (2 : Nat) (Option.some Jvm.ClassFile.FieldType.int)) ∈ lw_all := lw_g (lw_at lw_m5 205 rfl) rfl
theorem q1246 : (Jvm.Cond.fieldLink "jdk/internal/util/ArraysSupport" (51 : Nat) "jdk/internal/util/ArraysSupport" "LOG2_ARRAY_INT_INDEX_SCALE" "I") ∈ lw_all := lw_g (lw_at lw_m5 206 rfl) rfl
theorem q1247 : (Jvm.Cond.laysStatic "jdk/internal/util/ArraysSupport" "LOG2_ARRAY_INT_INDEX_SCALE" "I") ∈ lw_tbl := lw_at lw_m5 207 rfl
theorem q1248 : (Jvm.Cond.methodLink "jdk/internal/util/ArraysSupport" (54 : Nat) ({ cls := "jdk/internal/misc/Unsafe", name := "getIntUnaligned", desc := "(Ljava/lang/Object;J)I" } : Jvm.MethodName)) ∈ lw_all := lw_g (lw_at lw_m5 208 rfl) rfl
theorem q1249 : (Jvm.Cond.instanceMethod ({ cls := "jdk/internal/misc/Unsafe", name := "getIntUnaligned", desc := "(Ljava/lang/Object;J)I" } : Jvm.MethodName)) ∈ lw_all := lw_g (lw_at lw_m5 209 rfl) rfl
theorem q1250 : (Jvm.Cond.selects "jdk/internal/misc/Unsafe" ({ cls := "jdk/internal/misc/Unsafe", name := "getIntUnaligned", desc := "(Ljava/lang/Object;J)I" } : Jvm.MethodName) ({ cls := "jdk/internal/misc/Unsafe", name := "getIntUnaligned", desc := "(Ljava/lang/Object;J)I" } : Jvm.MethodName)) ∈ lw_all := lw_g (lw_at lw_m5 210 rfl) rfl
theorem q1251 : (Jvm.Cond.code ({ cls := "jdk/internal/misc/Unsafe", name := "getIntUnaligned", desc := "(Ljava/lang/Object;J)I" } : Jvm.MethodName) prog_95_method_336_code (4 : Nat) (Option.some Jvm.ClassFile.FieldType.int)) ∈ lw_all := lw_g (lw_at lw_m5 211 rfl) rfl
theorem q1252 : (Jvm.Cond.methodLink "jdk/internal/misc/Unsafe" (719 : Nat) ({ cls := "jdk/internal/misc/Unsafe", name := "makeInt", desc := "(SS)I" } : Jvm.MethodName)) ∈ lw_all := lw_g (lw_at lw_m5 212 rfl) rfl
theorem q1253 : (Jvm.Cond.static ({ cls := "jdk/internal/misc/Unsafe", name := "makeInt", desc := "(SS)I" } : Jvm.MethodName)) ∈ lw_all := lw_g (lw_at lw_m5 213 rfl) rfl
theorem q1254 : (Jvm.Cond.code ({ cls := "jdk/internal/misc/Unsafe", name := "makeInt", desc := "(SS)I" } : Jvm.MethodName) prog_95_method_354_code (2 : Nat) (Option.some Jvm.ClassFile.FieldType.int)) ∈ lw_all := lw_g (lw_at lw_m5 214 rfl) rfl
theorem q1255 : (Jvm.Cond.methodLink "jdk/internal/misc/Unsafe" (792 : Nat) ({ cls := "jdk/internal/misc/Unsafe", name := "toUnsignedInt", desc := "(S)I" } : Jvm.MethodName)) ∈ lw_all := lw_g (lw_at lw_m5 215 rfl) rfl
theorem q1256 : (Jvm.Cond.static ({ cls := "jdk/internal/misc/Unsafe", name := "toUnsignedInt", desc := "(S)I" } : Jvm.MethodName)) ∈ lw_all := lw_g (lw_at lw_m5 216 rfl) rfl
theorem q1257 : (Jvm.Cond.code ({ cls := "jdk/internal/misc/Unsafe", name := "toUnsignedInt", desc := "(S)I" } : Jvm.MethodName) prog_95_method_367_code (1 : Nat) (Option.some Jvm.ClassFile.FieldType.int)) ∈ lw_all := lw_g (lw_at lw_m5 217 rfl) rfl
theorem q1258 : (Jvm.Cond.constant "jdk/internal/misc/Unsafe" (374 : Nat) (65535 : Int32)) ∈ lw_all := lw_g (lw_at lw_m5 218 rfl) rfl
theorem q1259 : (Jvm.Cond.methodLink "jdk/internal/misc/Unsafe" (723 : Nat) ({ cls := "jdk/internal/misc/Unsafe", name := "makeInt", desc := "(BBBB)I" } : Jvm.MethodName)) ∈ lw_all := lw_g (lw_at lw_m5 219 rfl) rfl
theorem q1260 : (Jvm.Cond.static ({ cls := "jdk/internal/misc/Unsafe", name := "makeInt", desc := "(BBBB)I" } : Jvm.MethodName)) ∈ lw_all := lw_g (lw_at lw_m5 220 rfl) rfl
theorem q1261 : (Jvm.Cond.code ({ cls := "jdk/internal/misc/Unsafe", name := "makeInt", desc := "(BBBB)I" } : Jvm.MethodName) prog_95_method_355_code (4 : Nat) (Option.some Jvm.ClassFile.FieldType.int)) ∈ lw_all := lw_g (lw_at lw_m5 221 rfl) rfl
theorem q1262 : (Jvm.Cond.methodLink "jdk/internal/misc/Unsafe" (796 : Nat) ({ cls := "jdk/internal/misc/Unsafe", name := "toUnsignedInt", desc := "(B)I" } : Jvm.MethodName)) ∈ lw_all := lw_g (lw_at lw_m5 222 rfl) rfl
theorem q1263 : (Jvm.Cond.static ({ cls := "jdk/internal/misc/Unsafe", name := "toUnsignedInt", desc := "(B)I" } : Jvm.MethodName)) ∈ lw_all := lw_g (lw_at lw_m5 223 rfl) rfl
theorem q1264 : (Jvm.Cond.code ({ cls := "jdk/internal/misc/Unsafe", name := "toUnsignedInt", desc := "(B)I" } : Jvm.MethodName) prog_95_method_366_code (1 : Nat) (Option.some Jvm.ClassFile.FieldType.int)) ∈ lw_all := lw_g (lw_at lw_m5 224 rfl) rfl
theorem q1265 : (Jvm.Cond.methodLink "jdk/internal/util/ArraysSupport" (58 : Nat) ({ cls := "java/lang/Integer", name := "numberOfLeadingZeros", desc := "(I)I" } : Jvm.MethodName)) ∈ lw_all := lw_g (lw_at lw_m5 225 rfl) rfl
theorem q1266 : (Jvm.Cond.methodLink "jdk/internal/util/ArraysSupport" (11 : Nat) ({ cls := "java/lang/Integer", name := "numberOfTrailingZeros", desc := "(I)I" } : Jvm.MethodName)) ∈ lw_all := lw_g (lw_at lw_m5 226 rfl) rfl
theorem q1267 : (Jvm.Cond.methodLink "java/lang/StringLatin1" (50 : Nat) ({ cls := "java/lang/StringLatin1", name := "getChar", desc := "([BI)C" } : Jvm.MethodName)) ∈ lw_all := lw_g (lw_at lw_m5 227 rfl) rfl
theorem q1268 : (Jvm.Cond.static ({ cls := "java/lang/StringLatin1", name := "getChar", desc := "([BI)C" } : Jvm.MethodName)) ∈ lw_all := lw_g (lw_at lw_m5 228 rfl) rfl
theorem q1269 : (Jvm.Cond.code ({ cls := "java/lang/StringLatin1", name := "getChar", desc := "([BI)C" } : Jvm.MethodName) prog_47_method_44_code (2 : Nat) (Option.some Jvm.ClassFile.FieldType.char)) ∈ lw_all := lw_g (lw_at lw_m5 229 rfl) rfl
theorem q1270 : (Jvm.Cond.methodLink "java/lang/String" (590 : Nat) ({ cls := "java/lang/StringUTF16", name := "compareTo", desc := "([B[B)I" } : Jvm.MethodName)) ∈ lw_all := lw_g (lw_at lw_m5 230 rfl) rfl
theorem q1271 : (Jvm.Cond.static ({ cls := "java/lang/StringUTF16", name := "compareTo", desc := "([B[B)I" } : Jvm.MethodName)) ∈ lw_all := lw_g (lw_at lw_m5 231 rfl) rfl
theorem q1272 : (Jvm.Cond.code ({ cls := "java/lang/StringUTF16", name := "compareTo", desc := "([B[B)I" } : Jvm.MethodName) prog_48_method_29_code (4 : Nat) (Option.some Jvm.ClassFile.FieldType.int)) ∈ lw_all := lw_g (lw_at lw_m5 232 rfl) rfl
theorem q1273 : (Jvm.Cond.methodLink "java/lang/StringUTF16" (176 : Nat) ({ cls := "java/lang/StringUTF16", name := "compareValues", desc := "([B[BII)I" } : Jvm.MethodName)) ∈ lw_all := lw_g (lw_at lw_m5 233 rfl) rfl
theorem q1274 : (Jvm.Cond.static ({ cls := "java/lang/StringUTF16", name := "compareValues", desc := "([B[BII)I" } : Jvm.MethodName)) ∈ lw_all := lw_g (lw_at lw_m5 234 rfl) rfl
theorem q1275 : (Jvm.Cond.code ({ cls := "java/lang/StringUTF16", name := "compareValues", desc := "([B[BII)I" } : Jvm.MethodName) prog_48_method_31_code (8 : Nat) (Option.some Jvm.ClassFile.FieldType.int)) ∈ lw_all := lw_g (lw_at lw_m5 235 rfl) rfl
theorem q1276 : (Jvm.Cond.methodLink "java/lang/StringUTF16" (183 : Nat) ({ cls := "java/lang/Math", name := "min", desc := "(II)I" } : Jvm.MethodName)) ∈ lw_all := lw_g (lw_at lw_m5 236 rfl) rfl
theorem q1277 : (Jvm.Cond.methodLink "java/lang/String" (591 : Nat) ({ cls := "java/lang/StringLatin1", name := "compareToUTF16", desc := "([B[B)I" } : Jvm.MethodName)) ∈ lw_all := lw_g (lw_at lw_m5 237 rfl) rfl
theorem q1278 : (Jvm.Cond.static ({ cls := "java/lang/StringLatin1", name := "compareToUTF16", desc := "([B[B)I" } : Jvm.MethodName)) ∈ lw_all := lw_g (lw_at lw_m5 238 rfl) rfl
theorem q1279 : (Jvm.Cond.code ({ cls := "java/lang/StringLatin1", name := "compareToUTF16", desc := "([B[B)I" } : Jvm.MethodName) prog_47_method_16_code (4 : Nat) (Option.some Jvm.ClassFile.FieldType.int)) ∈ lw_all := lw_g (lw_at lw_m5 239 rfl) rfl
theorem q1280 : (Jvm.Cond.methodLink "java/lang/StringLatin1" (54 : Nat) ({ cls := "java/lang/StringLatin1", name := "length", desc := "([B)I" } : Jvm.MethodName)) ∈ lw_all := lw_g (lw_at lw_m6 0 rfl) rfl
theorem q1281 : (Jvm.Cond.static ({ cls := "java/lang/StringLatin1", name := "length", desc := "([B)I" } : Jvm.MethodName)) ∈ lw_all := lw_g (lw_at lw_m6 1 rfl) rfl
theorem q1282 : (Jvm.Cond.code ({ cls := "java/lang/StringLatin1", name := "length", desc := "([B)I" } : Jvm.MethodName) prog_47_method_5_code (1 : Nat) (Option.some Jvm.ClassFile.FieldType.int)) ∈ lw_all := lw_g (lw_at lw_m6 2 rfl) rfl
theorem q1283 : (Jvm.Cond.methodLink "java/lang/StringLatin1" (58 : Nat) ({ cls := "java/lang/StringUTF16", name := "length", desc := "([B)I" } : Jvm.MethodName)) ∈ lw_all := lw_g (lw_at lw_m6 3 rfl) rfl
theorem q1284 : (Jvm.Cond.methodLink "java/lang/StringLatin1" (59 : Nat) ({ cls := "java/lang/StringLatin1", name := "compareToUTF16Values", desc := "([B[BII)I" } : Jvm.MethodName)) ∈ lw_all := lw_g (lw_at lw_m6 4 rfl) rfl
theorem q1285 : (Jvm.Cond.static ({ cls := "java/lang/StringLatin1", name := "compareToUTF16Values", desc := "([B[BII)I" } : Jvm.MethodName)) ∈ lw_all := lw_g (lw_at lw_m6 5 rfl) rfl
theorem q1286 : (Jvm.Cond.code ({ cls := "java/lang/StringLatin1", name := "compareToUTF16Values", desc := "([B[BII)I" } : Jvm.MethodName) prog_47_method_18_code (8 : Nat) (Option.some Jvm.ClassFile.FieldType.int)) ∈ lw_all := lw_g (lw_at lw_m6 6 rfl) rfl
theorem q1287 : (Jvm.Cond.methodLink "java/lang/StringLatin1" (65 : Nat) ({ cls := "java/lang/StringUTF16", name := "getChar", desc := "([BI)C" } : Jvm.MethodName)) ∈ lw_all := lw_g (lw_at lw_m6 7 rfl) rfl
theorem q1288 : (Jvm.Cond.methodLink "java/lang/String" (594 : Nat) ({ cls := "java/lang/StringUTF16", name := "compareToLatin1", desc := "([B[B)I" } : Jvm.MethodName)) ∈ lw_all := lw_g (lw_at lw_m6 8 rfl) rfl
theorem q1289 : (Jvm.Cond.static ({ cls := "java/lang/StringUTF16", name := "compareToLatin1", desc := "([B[B)I" } : Jvm.MethodName)) ∈ lw_all := lw_g (lw_at lw_m6 9 rfl) rfl
theorem q1290 : (Jvm.Cond.code ({ cls := "java/lang/StringUTF16", name := "compareToLatin1", desc := "([B[B)I" } : Jvm.MethodName) prog_48_method_32_code (2 : Nat) (Option.some Jvm.ClassFile.FieldType.int)) ∈ lw_all := lw_g (lw_at lw_m6 10 rfl) rfl
theorem q1291 : (Jvm.Cond.methodLink "java/lang/StringUTF16" (189 : Nat) ({ cls := "java/lang/StringLatin1", name := "compareToUTF16", desc := "([B[B)I" } : Jvm.MethodName)) ∈ lw_all := lw_g (lw_at lw_m6 11 rfl) rfl
theorem q1292 : (Jvm.Cond.castable "java/lang/StringBuilder" "java/lang/Comparable") ∈ lw_tbl := lw_at lw_m6 12 rfl
theorem q1293 : (Jvm.Cond.selects "java/lang/StringBuilder" ({ cls := "java/lang/Comparable", name := "compareTo", desc := "(Ljava/lang/Object;)I" } : Jvm.MethodName) ({ cls := "java/lang/StringBuilder", name := "compareTo", desc := "(Ljava/lang/Object;)I" } : Jvm.MethodName)) ∈ lw_all := lw_g (lw_at lw_m6 13 rfl) rfl
theorem q1294 : (Jvm.Cond.unhidden "java/lang/StringBuilder" "compareTo" "(Ljava/lang/Object;)I") ∈ lw_tbl := lw_at lw_m6 14 rfl
theorem q1295 : (Jvm.Cond.instanceMethod ({ cls := "java/lang/StringBuilder", name := "compareTo", desc := "(Ljava/lang/Object;)I" } : Jvm.MethodName)) ∈ lw_all := lw_g (lw_at lw_m6 15 rfl) rfl
theorem q1296 : (Jvm.Cond.publicMethod ({ cls := "java/lang/StringBuilder", name := "compareTo", desc := "(Ljava/lang/Object;)I" } : Jvm.MethodName)) ∈ lw_tbl := lw_at lw_m6 16 rfl
theorem q1297 : (Jvm.Cond.code ({ cls := "java/lang/StringBuilder", name := "compareTo", desc := "(Ljava/lang/Object;)I" } : Jvm.MethodName) prog_46_method_97_code (2 : Nat) (Option.some Jvm.ClassFile.FieldType.int)) ∈ lw_all := lw_g (lw_at lw_m6 17 rfl) rfl
theorem q1298 : (Jvm.Cond.classLink "java/lang/StringBuilder" (24 : Nat) "java/lang/StringBuilder") ∈ lw_all := lw_g (lw_at lw_m6 18 rfl) rfl
theorem q1299 : (Jvm.Cond.methodLink "java/lang/StringBuilder" (346 : Nat) ({ cls := "java/lang/StringBuilder", name := "compareTo", desc := "(Ljava/lang/StringBuilder;)I" } : Jvm.MethodName)) ∈ lw_all := lw_g (lw_at lw_m6 19 rfl) rfl
theorem q1300 : (Jvm.Cond.instanceMethod ({ cls := "java/lang/StringBuilder", name := "compareTo", desc := "(Ljava/lang/StringBuilder;)I" } : Jvm.MethodName)) ∈ lw_all := lw_g (lw_at lw_m6 20 rfl) rfl
theorem q1301 : (Jvm.Cond.selects "java/lang/StringBuilder" ({ cls := "java/lang/StringBuilder", name := "compareTo", desc := "(Ljava/lang/StringBuilder;)I" } : Jvm.MethodName) ({ cls := "java/lang/StringBuilder", name := "compareTo", desc := "(Ljava/lang/StringBuilder;)I" } : Jvm.MethodName)) ∈ lw_all := lw_g (lw_at lw_m6 21 rfl) rfl
theorem q1302 : (Jvm.Cond.code ({ cls := "java/lang/StringBuilder", name := "compareTo", desc := "(Ljava/lang/StringBuilder;)I" } : Jvm.MethodName) prog_46_method_5_code (2 : Nat) (Option.some Jvm.ClassFile.FieldType.int)) ∈ lw_all := lw_g (lw_at lw_m6 22 rfl) rfl
theorem q1303 : (Jvm.Cond.methodLink "java/lang/StringBuilder" (13 : Nat) ({ cls := "java/lang/AbstractStringBuilder", name := "compareTo", desc := "(Ljava/lang/AbstractStringBuilder;)I" } : Jvm.MethodName)) ∈ lw_all := lw_g (lw_at lw_m6 23 rfl) rfl
theorem q1304 : (Jvm.Cond.instanceMethod ({ cls := "java/lang/AbstractStringBuilder", name := "compareTo", desc := "(Ljava/lang/AbstractStringBuilder;)I" } : Jvm.MethodName)) ∈ lw_all := lw_g (lw_at lw_m6 24 rfl) rfl
theorem q1305 : (Jvm.Cond.code ({ cls := "java/lang/AbstractStringBuilder", name := "compareTo", desc := "(Ljava/lang/AbstractStringBuilder;)I" } : Jvm.MethodName) prog_26_method_5_code (6 : Nat) (Option.some Jvm.ClassFile.FieldType.int)) ∈ lw_all := lw_g (lw_at lw_m6 25 rfl) rfl
theorem q1306 : (Jvm.Cond.methodLink "java/lang/AbstractStringBuilder" (87 : Nat) ({ cls := "java/lang/StringLatin1", name := "compareTo", desc := "([B[BII)I" } : Jvm.MethodName)) ∈ lw_all := lw_g (lw_at lw_m6 26 rfl) rfl
theorem q1307 : (Jvm.Cond.methodLink "java/lang/AbstractStringBuilder" (93 : Nat) ({ cls := "java/lang/StringUTF16", name := "compareTo", desc := "([B[BII)I" } : Jvm.MethodName)) ∈ lw_all := lw_g (lw_at lw_m6 27 rfl) rfl
theorem q1308 : (Jvm.Cond.static ({ cls := "java/lang/StringUTF16", name := "compareTo", desc := "([B[BII)I" } : Jvm.MethodName)) ∈ lw_all := lw_g (lw_at lw_m6 28 rfl) rfl
theorem q1309 : (Jvm.Cond.code ({ cls := "java/lang/StringUTF16", name := "compareTo", desc := "([B[BII)I" } : Jvm.MethodName) prog_48_method_30_code (4 : Nat) (Option.some Jvm.ClassFile.FieldType.int)) ∈ lw_all := lw_g (lw_at lw_m6 29 rfl) rfl
theorem q1310 : (Jvm.Cond.methodLink "java/lang/StringUTF16" (180 : Nat) ({ cls := "java/lang/StringUTF16", name := "checkOffset", desc := "(I[B)V" } : Jvm.MethodName)) ∈ lw_all := lw_g (lw_at lw_m6 30 rfl) rfl
theorem q1311 : (Jvm.Cond.static ({ cls := "java/lang/StringUTF16", name := "checkOffset", desc := "(I[B)V" } : Jvm.MethodName)) ∈ lw_all := lw_g (lw_at lw_m6 31 rfl) rfl
theorem q1312 : (Jvm.Cond.code ({ cls := "java/lang/StringUTF16", name := "checkOffset", desc := "(I[B)V" } : Jvm.MethodName) prog_48_method_92_code (2 : Nat) (Option.none : Option Jvm.ClassFile.FieldType)) ∈ lw_all := lw_g (lw_at lw_m6 32 rfl) rfl
theorem q1313 : (Jvm.Cond.methodLink "java/lang/StringUTF16" (417 : Nat) ({ cls := "java/lang/String", name := "checkOffset", desc := "(II)V" } : Jvm.MethodName)) ∈ lw_all := lw_g (lw_at lw_m6 33 rfl) rfl
theorem q1314 : (Jvm.Cond.static ({ cls := "java/lang/String", name := "checkOffset", desc := "(II)V" } : Jvm.MethodName)) ∈ lw_all := lw_g (lw_at lw_m6 34 rfl) rfl
theorem q1315 : (Jvm.Cond.code ({ cls := "java/lang/String", name := "checkOffset", desc := "(II)V" } : Jvm.MethodName) prog_45_method_156_code (2 : Nat) (Option.none : Option Jvm.ClassFile.FieldType)) ∈ lw_all := lw_g (lw_at lw_m6 35 rfl) rfl
theorem q1316 : (Jvm.Cond.methodLink "java/lang/AbstractStringBuilder" (94 : Nat) ({ cls := "java/lang/StringLatin1", name := "compareToUTF16", desc := "([B[BII)I" } : Jvm.MethodName)) ∈ lw_all := lw_g (lw_at lw_m6 36 rfl) rfl
theorem q1317 : (Jvm.Cond.static ({ cls := "java/lang/StringLatin1", name := "compareToUTF16", desc := "([B[BII)I" } : Jvm.MethodName)) ∈ lw_all := lw_g (lw_at lw_m6 37 rfl) rfl
theorem q1318 : (Jvm.Cond.code ({ cls := "java/lang/StringLatin1", name := "compareToUTF16", desc := "([B[BII)I" } : Jvm.MethodName) prog_47_method_17_code (4 : Nat) (Option.some Jvm.ClassFile.FieldType.int)) ∈ lw_all := lw_g (lw_at lw_m6 38 rfl) rfl
theorem q1319 : (Jvm.Cond.methodLink "java/lang/StringLatin1" (62 : Nat) ({ cls := "java/lang/String", name := "checkOffset", desc := "(II)V" } : Jvm.MethodName)) ∈ lw_all := lw_g (lw_at lw_m6 39 rfl) rfl
theorem q1320 : (Jvm.Cond.methodLink "java/lang/AbstractStringBuilder" (97 : Nat) ({ cls := "java/lang/StringUTF16", name := "compareToLatin1", desc := "([B[BII)I" } : Jvm.MethodName)) ∈ lw_all := lw_g (lw_at lw_m6 40 rfl) rfl
theorem q1321 : (Jvm.Cond.static ({ cls := "java/lang/StringUTF16", name := "compareToLatin1", desc := "([B[BII)I" } : Jvm.MethodName)) ∈ lw_all := lw_g (lw_at lw_m6 41 rfl) rfl
theorem q1322 : (Jvm.Cond.code ({ cls := "java/lang/StringUTF16", name := "compareToLatin1", desc := "([B[BII)I" } : Jvm.MethodName) prog_48_method_33_code (4 : Nat) (Option.some Jvm.ClassFile.FieldType.int)) ∈ lw_all := lw_g (lw_at lw_m6 42 rfl) rfl
theorem q1323 : (Jvm.Cond.methodLink "java/lang/StringUTF16" (193 : Nat) ({ cls := "java/lang/StringLatin1", name := "compareToUTF16", desc := "([B[BII)I" } : Jvm.MethodName)) ∈ lw_all := lw_g (lw_at lw_m6 43 rfl) rfl
theorem q1324 : (Jvm.Cond.interfaceEntry "java/util/TreeMap" (117 : Nat)) ∈ lw_tbl := lw_at lw_m6 44 rfl
theorem q1325 : (Jvm.Cond.methodLink "java/util/TreeMap" (117 : Nat) ({ cls := "java/util/Comparator", name := "compare", desc := "(Ljava/lang/Object;Ljava/lang/Object;)I" } : Jvm.MethodName)) ∈ lw_all := lw_g (lw_at lw_m6 45 rfl) rfl
theorem q1326 : (Jvm.Cond.interfaceMethod "java/util/Comparator" "java/util/Comparator" "compare" "(Ljava/lang/Object;Ljava/lang/Object;)I") ∈ lw_tbl := lw_at lw_m6 46 rfl
theorem q1327 : (Jvm.Cond.declares ({ cls := "java/util/Comparator", name := "compare", desc := "(Ljava/lang/Object;Ljava/lang/Object;)I" } : Jvm.MethodName)) ∈ lw_tbl := lw_at lw_m6 47 rfl
theorem q1328 : (Jvm.Cond.methodLink "java/util/TreeMap$NavigableSubMap" (67 : Nat) ({ cls := "java/util/TreeMap", name := "getHigherEntry", desc := "(Ljava/lang/Object;)Ljava/util/TreeMap$Entry;" } : Jvm.MethodName)) ∈ lw_all := lw_g (lw_at lw_m6 48 rfl) rfl
theorem q1329 : (Jvm.Cond.instanceMethod ({ cls := "java/util/TreeMap", name := "getHigherEntry", desc := "(Ljava/lang/Object;)Ljava/util/TreeMap$Entry;" } : Jvm.MethodName)) ∈ lw_all := lw_g (lw_at lw_m6 49 rfl) rfl
theorem q1330 : (Jvm.Cond.selects "java/util/TreeMap" ({ cls := "java/util/TreeMap", name := "getHigherEntry", desc := "(Ljava/lang/Object;)Ljava/util/TreeMap$Entry;" } : Jvm.MethodName) ({ cls := "java/util/TreeMap", name := "getHigherEntry", desc := "(Ljava/lang/Object;)Ljava/util/TreeMap$Entry;" } : Jvm.MethodName)) ∈ lw_all := lw_g (lw_at lw_m6 50 rfl) rfl
theorem q1331 : (Jvm.Cond.code ({ cls := "java/util/TreeMap", name := "getHigherEntry", desc := "(Ljava/lang/Object;)Ljava/util/TreeMap$Entry;" } : Jvm.MethodName) prog_79_method_19_code (6 : Nat) (Option.some (Jvm.ClassFile.FieldType.object "java/util/TreeMap$Entry"))) ∈ lw_all := lw_g (lw_at lw_m6 51 rfl) rfl
theorem q1332 : (Jvm.Cond.methodLink "java/util/TreeMap$NavigableSubMap" (50 : Nat) ({ cls := "java/util/TreeMap$NavigableSubMap", name := "tooHigh", desc := "(Ljava/lang/Object;)Z" } : Jvm.MethodName)) ∈ lw_all := lw_g (lw_at lw_m6 52 rfl) rfl
theorem q1333 : (Jvm.Cond.instanceMethod ({ cls := "java/util/TreeMap$NavigableSubMap", name := "tooHigh", desc := "(Ljava/lang/Object;)Z" } : Jvm.MethodName)) ∈ lw_all := lw_g (lw_at lw_m6 53 rfl) rfl
theorem q1334 : (Jvm.Cond.sameMethod "java/util/TreeMap$NavigableSubMap" "java/util/TreeMap$NavigableSubMap" "tooHigh" "(Ljava/lang/Object;)Z") ∈ lw_all := lw_g (lw_at lw_m6 54 rfl) rfl
theorem q1335 : (Jvm.Cond.selects "java/util/TreeMap$AscendingSubMap" ({ cls := "java/util/TreeMap$NavigableSubMap", name := "tooHigh", desc := "(Ljava/lang/Object;)Z" } : Jvm.MethodName) ({ cls := "java/util/TreeMap$NavigableSubMap", name := "tooHigh", desc := "(Ljava/lang/Object;)Z" } : Jvm.MethodName)) ∈ lw_all := lw_g (lw_at lw_m6 55 rfl) rfl
theorem q1336 : (Jvm.Cond.code ({ cls := "java/util/TreeMap$NavigableSubMap", name := "tooHigh", desc := "(Ljava/lang/Object;)Z" } : Jvm.MethodName) prog_87_method_3_code (3 : Nat) (Option.some Jvm.ClassFile.FieldType.boolean)) ∈ lw_all := lw_g (lw_at lw_m6 56 rfl) rfl
theorem q1337 : (Jvm.Cond.methodLink "java/util/TreeMap$NavigableSubMap" (7 : Nat) ({ cls := "java/util/TreeMap", name := "compare", desc := "(Ljava/lang/Object;Ljava/lang/Object;)I" } : Jvm.MethodName)) ∈ lw_all := lw_g (lw_at lw_m6 57 rfl) rfl
theorem q1338 : (Jvm.Cond.methodLink "java/util/TreeMap$AscendingSubMap$AscendingEntrySetView" (21 : Nat) ({ cls := "java/util/TreeMap$AscendingSubMap", name := "absHighFence", desc := "()Ljava/util/TreeMap$Entry;" } : Jvm.MethodName)) ∈ lw_all := lw_g (lw_at lw_m6 58 rfl) rfl
theorem q1339 : (Jvm.Cond.sameMethod "java/util/TreeMap$AscendingSubMap" "java/util/TreeMap$NavigableSubMap" "absHighFence" "()Ljava/util/TreeMap$Entry;") ∈ lw_all := lw_g (lw_at lw_m6 59 rfl) rfl
theorem q1340 : (Jvm.Cond.declares ({ cls := "java/util/TreeMap$NavigableSubMap", name := "absHighFence", desc := "()Ljava/util/TreeMap$Entry;" } : Jvm.MethodName)) ∈ lw_tbl := lw_at lw_m6 60 rfl
theorem q1341 : (Jvm.Cond.selects "java/util/TreeMap$AscendingSubMap" ({ cls := "java/util/TreeMap$AscendingSubMap", name := "absHighFence", desc := "()Ljava/util/TreeMap$Entry;" } : Jvm.MethodName) ({ cls := "java/util/TreeMap$NavigableSubMap", name := "absHighFence", desc := "()Ljava/util/TreeMap$Entry;" } : Jvm.MethodName)) ∈ lw_all := lw_g (lw_at lw_m6 61 rfl) rfl
theorem q1342 : (Jvm.Cond.instanceMethod ({ cls := "java/util/TreeMap$NavigableSubMap", name := "absHighFence", desc := "()Ljava/util/TreeMap$Entry;" } : Jvm.MethodName)) ∈ lw_all := lw_g (lw_at lw_m6 62 rfl) rfl
theorem q1343 : (Jvm.Cond.code ({ cls := "java/util/TreeMap$NavigableSubMap", name := "absHighFence", desc := "()Ljava/util/TreeMap$Entry;" } : Jvm.MethodName) prog_87_method_13_code (1 : Nat) (Option.some (Jvm.ClassFile.FieldType.object "java/util/TreeMap$Entry"))) ∈ lw_all := lw_g (lw_at lw_m6 63 rfl) rfl
theorem q1344 : (Jvm.Cond.methodLink "java/util/TreeMap$AscendingSubMap$AscendingEntrySetView" (24 : Nat) ({ cls := "java/util/TreeMap$NavigableSubMap$SubMapEntryIterator", name := "<init>", desc := "(Ljava/util/TreeMap$NavigableSubMap;Ljava/util/TreeMap$Entry;Ljava/util/TreeMap$Entry;)V" } : Jvm.MethodName)) ∈ lw_all := lw_g (lw_at lw_m6 64 rfl) rfl
theorem q1345 : (Jvm.Cond.instanceMethod ({ cls := "java/util/TreeMap$NavigableSubMap$SubMapEntryIterator", name := "<init>", desc := "(Ljava/util/TreeMap$NavigableSubMap;Ljava/util/TreeMap$Entry;Ljava/util/TreeMap$Entry;)V" } : Jvm.MethodName)) ∈ lw_all := lw_g (lw_at lw_m6 65 rfl) rfl
theorem q1346 : (Jvm.Cond.code ({ cls := "java/util/TreeMap$NavigableSubMap$SubMapEntryIterator", name := "<init>", desc := "(Ljava/util/TreeMap$NavigableSubMap;Ljava/util/TreeMap$Entry;Ljava/util/TreeMap$Entry;)V" } : Jvm.MethodName) prog_89_method_1_code (4 : Nat) (Option.none : Option Jvm.ClassFile.FieldType)) ∈ lw_all := lw_g (lw_at lw_m6 66 rfl) rfl
theorem q1347 : (Jvm.Cond.methodLink "java/util/TreeMap$NavigableSubMap$SubMapEntryIterator" (1 : Nat) ({ cls := "java/util/TreeMap$NavigableSubMap$SubMapIterator", name := "<init>", desc := "(Ljava/util/TreeMap$NavigableSubMap;Ljava/util/TreeMap$Entry;Ljava/util/TreeMap$Entry;)V" } : Jvm.MethodName)) ∈ lw_all := lw_g (lw_at lw_m6 67 rfl) rfl
theorem q1348 : (Jvm.Cond.instanceMethod ({ cls := "java/util/TreeMap$NavigableSubMap$SubMapIterator", name := "<init>", desc := "(Ljava/util/TreeMap$NavigableSubMap;Ljava/util/TreeMap$Entry;Ljava/util/TreeMap$Entry;)V" } : Jvm.MethodName)) ∈ lw_all := lw_g (lw_at lw_m6 68 rfl) rfl
theorem q1349 : (Jvm.Cond.code ({ cls := "java/util/TreeMap$NavigableSubMap$SubMapIterator", name := "<init>", desc := "(Ljava/util/TreeMap$NavigableSubMap;Ljava/util/TreeMap$Entry;Ljava/util/TreeMap$Entry;)V" } : Jvm.MethodName) prog_90_method_1_code (4 : Nat) (Option.none : Option Jvm.ClassFile.FieldType)) ∈ lw_all := lw_g (lw_at lw_m6 69 rfl) rfl
theorem q1350 : (Jvm.Cond.methodLink "java/util/TreeMap$NavigableSubMap$SubMapIterator" (7 : Nat) ({ cls := "java/lang/Object", name := "<init>", desc := "()V" } : Jvm.MethodName)) ∈ lw_all := lw_g (lw_at lw_m6 70 rfl) rfl
theorem q1351 : (Jvm.Cond.fieldLinkNest "java/util/TreeMap$NavigableSubMap$SubMapIterator" (35 : Nat) "java/util/TreeMap" "UNBOUNDED" "Ljava/lang/Object;" "java/util/TreeMap") ∈ lw_tbl := lw_at lw_m6 71 rfl
theorem q1352 : (Jvm.Cond.laysStatic "java/util/TreeMap" "UNBOUNDED" "Ljava/lang/Object;") ∈ lw_tbl := lw_at lw_m6 72 rfl
theorem q1353 : (Jvm.Cond.fieldLink "java/util/TreeMap$NavigableSubMap$SubMapIterator" (28 : Nat) "java/util/TreeMap$NavigableSubMap$SubMapIterator" "lastReturned" "Ljava/util/TreeMap$Entry;") ∈ lw_all := lw_g (lw_at lw_m6 73 rfl) rfl
theorem q1354 : (Jvm.Cond.fieldLink "java/util/TreeMap$NavigableSubMap$SubMapIterator" (32 : Nat) "java/util/TreeMap$NavigableSubMap$SubMapIterator" "next" "Ljava/util/TreeMap$Entry;") ∈ lw_all := lw_g (lw_at lw_m6 74 rfl) rfl
theorem q1355 : (Jvm.Cond.fieldLink "java/util/TreeMap$NavigableSubMap$SubMapIterator" (44 : Nat) "java/util/TreeMap$NavigableSubMap$SubMapIterator" "fenceKey" "Ljava/lang/Object;") ∈ lw_all := lw_g (lw_at lw_m6 75 rfl) rfl
theorem q1356 : (Jvm.Cond.fieldLink "java/util/TreeMap$NavigableSubMap$SubMapIterator" (25 : Nat) "java/util/TreeMap$NavigableSubMap$SubMapIterator" "expectedModCount" "I") ∈ lw_all := lw_g (lw_at lw_m6 76 rfl) rfl
theorem q1357 : (Jvm.Cond.fieldLink "java/util/TreeMap$NavigableSubMap$SubMapIterator" (1 : Nat) "java/util/TreeMap$NavigableSubMap$SubMapIterator" "this$0" "Ljava/util/TreeMap$NavigableSubMap;") ∈ lw_all := lw_g (lw_at lw_m6 77 rfl) rfl
theorem q1358 : (Jvm.Cond.lays "java/util/TreeMap$NavigableSubMap$SubMapEntryIterator" "java/util/TreeMap$NavigableSubMap$SubMapIterator" "lastReturned" "Ljava/util/TreeMap$Entry;") ∈ lw_all := lw_g (lw_at lw_m6 78 rfl) rfl
theorem q1359 : (Jvm.Cond.soleField "java/util/TreeMap$NavigableSubMap$SubMapIterator" "lastReturned") ∈ lw_all := lw_g (lw_at lw_m6 79 rfl) rfl
theorem q1360 : (Jvm.Cond.lays "java/util/TreeMap$NavigableSubMap$SubMapEntryIterator" "java/util/TreeMap$NavigableSubMap$SubMapIterator" "next" "Ljava/util/TreeMap$Entry;") ∈ lw_all := lw_g (lw_at lw_m6 80 rfl) rfl
theorem q1361 : (Jvm.Cond.soleField "java/util/TreeMap$NavigableSubMap$SubMapIterator" "next") ∈ lw_all := lw_g (lw_at lw_m6 81 rfl) rfl
theorem q1362 : (Jvm.Cond.laysFinal "java/util/TreeMap$NavigableSubMap$SubMapEntryIterator" "java/util/TreeMap$NavigableSubMap$SubMapIterator" "fenceKey" "Ljava/lang/Object;") ∈ lw_all := lw_g (lw_at lw_m6 82 rfl) rfl
theorem q1363 : (Jvm.Cond.soleField "java/util/TreeMap$NavigableSubMap$SubMapIterator" "fenceKey") ∈ lw_all := lw_g (lw_at lw_m6 83 rfl) rfl
theorem q1364 : (Jvm.Cond.lays "java/util/TreeMap$NavigableSubMap$SubMapEntryIterator" "java/util/TreeMap$NavigableSubMap$SubMapIterator" "expectedModCount" "I") ∈ lw_all := lw_g (lw_at lw_m6 84 rfl) rfl
theorem q1365 : (Jvm.Cond.soleField "java/util/TreeMap$NavigableSubMap$SubMapIterator" "expectedModCount") ∈ lw_all := lw_g (lw_at lw_m6 85 rfl) rfl
theorem q1366 : (Jvm.Cond.laysFinal "java/util/TreeMap$NavigableSubMap$SubMapEntryIterator" "java/util/TreeMap$NavigableSubMap$SubMapIterator" "this$0" "Ljava/util/TreeMap$NavigableSubMap;") ∈ lw_all := lw_g (lw_at lw_m6 86 rfl) rfl
theorem q1367 : (Jvm.Cond.soleField "java/util/TreeMap$NavigableSubMap$SubMapIterator" "this$0") ∈ lw_all := lw_g (lw_at lw_m6 87 rfl) rfl
theorem q1368 : (Jvm.Cond.superclass "java/util/TreeMap$NavigableSubMap$SubMapEntryIterator" "java/util/TreeMap$NavigableSubMap$SubMapIterator") ∈ lw_all := lw_g (lw_at lw_m6 88 rfl) rfl
theorem q1369 : (Jvm.Cond.castable "java/util/TreeMap$EntrySet" "java/util/Set") ∈ lw_tbl := lw_at lw_m6 89 rfl
theorem q1370 : (Jvm.Cond.selects "java/util/TreeMap$EntrySet" ({ cls := "java/util/Set", name := "iterator", desc := "()Ljava/util/Iterator;" } : Jvm.MethodName) ({ cls := "java/util/TreeMap$EntrySet", name := "iterator", desc := "()Ljava/util/Iterator;" } : Jvm.MethodName)) ∈ lw_all := lw_g (lw_at lw_m6 90 rfl) rfl
theorem q1371 : (Jvm.Cond.unhidden "java/util/TreeMap$EntrySet" "iterator" "()Ljava/util/Iterator;") ∈ lw_tbl := lw_at lw_m6 91 rfl
theorem q1372 : (Jvm.Cond.instanceMethod ({ cls := "java/util/TreeMap$EntrySet", name := "iterator", desc := "()Ljava/util/Iterator;" } : Jvm.MethodName)) ∈ lw_all := lw_g (lw_at lw_m6 92 rfl) rfl
theorem q1373 : (Jvm.Cond.publicMethod ({ cls := "java/util/TreeMap$EntrySet", name := "iterator", desc := "()Ljava/util/Iterator;" } : Jvm.MethodName)) ∈ lw_tbl := lw_at lw_m6 93 rfl
theorem q1374 : (Jvm.Cond.code ({ cls := "java/util/TreeMap$EntrySet", name := "iterator", desc := "()Ljava/util/Iterator;" } : Jvm.MethodName) prog_84_method_2_code (1 : Nat) (Option.some (Jvm.ClassFile.FieldType.object "java/util/Iterator"))) ∈ lw_all := lw_g (lw_at lw_m6 94 rfl) rfl
theorem q1375 : (Jvm.Cond.classLink "java/util/TreeMap$EntrySet" (13 : Nat) "java/util/TreeMap$EntryIterator") ∈ lw_all := lw_g (lw_at lw_m6 95 rfl) rfl
theorem q1376 : (Jvm.Cond.instantiable "java/util/TreeMap$EntryIterator" (4 : Nat)) ∈ lw_all := lw_g (lw_at lw_m6 96 rfl) rfl
theorem q1377 : (Jvm.Cond.methodLink "java/util/TreeMap$EntrySet" (15 : Nat) ({ cls := "java/util/TreeMap", name := "getFirstEntry", desc := "()Ljava/util/TreeMap$Entry;" } : Jvm.MethodName)) ∈ lw_all := lw_g (lw_at lw_m6 97 rfl) rfl
theorem q1378 : (Jvm.Cond.methodLink "java/util/TreeMap$EntrySet" (21 : Nat) ({ cls := "java/util/TreeMap$EntryIterator", name := "<init>", desc := "(Ljava/util/TreeMap;Ljava/util/TreeMap$Entry;)V" } : Jvm.MethodName)) ∈ lw_all := lw_g (lw_at lw_m6 98 rfl) rfl
theorem q1379 : (Jvm.Cond.instanceMethod ({ cls := "java/util/TreeMap$EntryIterator", name := "<init>", desc := "(Ljava/util/TreeMap;Ljava/util/TreeMap$Entry;)V" } : Jvm.MethodName)) ∈ lw_all := lw_g (lw_at lw_m6 99 rfl) rfl
theorem q1380 : (Jvm.Cond.code ({ cls := "java/util/TreeMap$EntryIterator", name := "<init>", desc := "(Ljava/util/TreeMap;Ljava/util/TreeMap$Entry;)V" } : Jvm.MethodName) prog_83_method_1_code (3 : Nat) (Option.none : Option Jvm.ClassFile.FieldType)) ∈ lw_all := lw_g (lw_at lw_m6 100 rfl) rfl
theorem q1381 : (Jvm.Cond.methodLink "java/util/TreeMap$EntryIterator" (1 : Nat) ({ cls := "java/util/TreeMap$PrivateEntryIterator", name := "<init>", desc := "(Ljava/util/TreeMap;Ljava/util/TreeMap$Entry;)V" } : Jvm.MethodName)) ∈ lw_all := lw_g (lw_at lw_m6 101 rfl) rfl
theorem q1382 : (Jvm.Cond.instanceMethod ({ cls := "java/util/TreeMap$PrivateEntryIterator", name := "<init>", desc := "(Ljava/util/TreeMap;Ljava/util/TreeMap$Entry;)V" } : Jvm.MethodName)) ∈ lw_all := lw_g (lw_at lw_m6 102 rfl) rfl
theorem q1383 : (Jvm.Cond.code ({ cls := "java/util/TreeMap$PrivateEntryIterator", name := "<init>", desc := "(Ljava/util/TreeMap;Ljava/util/TreeMap$Entry;)V" } : Jvm.MethodName) prog_92_method_1_code (3 : Nat) (Option.none : Option Jvm.ClassFile.FieldType)) ∈ lw_all := lw_g (lw_at lw_m6 103 rfl) rfl
theorem q1384 : (Jvm.Cond.methodLink "java/util/TreeMap$PrivateEntryIterator" (7 : Nat) ({ cls := "java/lang/Object", name := "<init>", desc := "()V" } : Jvm.MethodName)) ∈ lw_all := lw_g (lw_at lw_m6 104 rfl) rfl
theorem q1385 : (Jvm.Cond.fieldLink "java/util/TreeMap$PrivateEntryIterator" (26 : Nat) "java/util/TreeMap$PrivateEntryIterator" "next" "Ljava/util/TreeMap$Entry;") ∈ lw_all := lw_g (lw_at lw_m6 105 rfl) rfl
theorem q1386 : (Jvm.Cond.fieldLink "java/util/TreeMap$PrivateEntryIterator" (22 : Nat) "java/util/TreeMap$PrivateEntryIterator" "lastReturned" "Ljava/util/TreeMap$Entry;") ∈ lw_all := lw_g (lw_at lw_m6 106 rfl) rfl
theorem q1387 : (Jvm.Cond.fieldLink "java/util/TreeMap$PrivateEntryIterator" (19 : Nat) "java/util/TreeMap$PrivateEntryIterator" "expectedModCount" "I") ∈ lw_all := lw_g (lw_at lw_m6 107 rfl) rfl
theorem q1388 : (Jvm.Cond.fieldLink "java/util/TreeMap$PrivateEntryIterator" (1 : Nat) "java/util/TreeMap$PrivateEntryIterator" "this$0" "Ljava/util/TreeMap;") ∈ lw_all := lw_g (lw_at lw_m6 108 rfl) rfl
theorem q1389 : (Jvm.Cond.lays "java/util/TreeMap$EntryIterator" "java/util/TreeMap$PrivateEntryIterator" "next" "Ljava/util/TreeMap$Entry;") ∈ lw_all := lw_g (lw_at lw_m6 109 rfl) rfl
theorem q1390 : (Jvm.Cond.soleField "java/util/TreeMap$PrivateEntryIterator" "next") ∈ lw_all := lw_g (lw_at lw_m6 110 rfl) rfl
theorem q1391 : (Jvm.Cond.lays "java/util/TreeMap$EntryIterator" "java/util/TreeMap$PrivateEntryIterator" "lastReturned" "Ljava/util/TreeMap$Entry;") ∈ lw_all := lw_g (lw_at lw_m6 111 rfl) rfl
theorem q1392 : (Jvm.Cond.soleField "java/util/TreeMap$PrivateEntryIterator" "lastReturned") ∈ lw_all := lw_g (lw_at lw_m6 112 rfl) rfl
theorem q1393 : (Jvm.Cond.lays "java/util/TreeMap$EntryIterator" "java/util/TreeMap$PrivateEntryIterator" "expectedModCount" "I") ∈ lw_all := lw_g (lw_at lw_m6 113 rfl) rfl
theorem q1394 : (Jvm.Cond.soleField "java/util/TreeMap$PrivateEntryIterator" "expectedModCount") ∈ lw_all := lw_g (lw_at lw_m6 114 rfl) rfl
theorem q1395 : (Jvm.Cond.laysFinal "java/util/TreeMap$EntryIterator" "java/util/TreeMap$PrivateEntryIterator" "this$0" "Ljava/util/TreeMap;") ∈ lw_all := lw_g (lw_at lw_m6 115 rfl) rfl
theorem q1396 : (Jvm.Cond.soleField "java/util/TreeMap$PrivateEntryIterator" "this$0") ∈ lw_all := lw_g (lw_at lw_m6 116 rfl) rfl
theorem q1397 : (Jvm.Cond.superclass "java/util/TreeMap$EntryIterator" "java/util/TreeMap$PrivateEntryIterator") ∈ lw_all := lw_g (lw_at lw_m6 117 rfl) rfl
theorem q1398 : (Jvm.Cond.castable "java/util/TreeMap$KeySet" "java/util/Set") ∈ lw_tbl := lw_at lw_m6 118 rfl
theorem q1399 : (Jvm.Cond.selects "java/util/TreeMap$KeySet" ({ cls := "java/util/Set", name := "iterator", desc := "()Ljava/util/Iterator;" } : Jvm.MethodName) ({ cls := "java/util/TreeMap$KeySet", name := "iterator", desc := "()Ljava/util/Iterator;" } : Jvm.MethodName)) ∈ lw_all := lw_g (lw_at lw_m6 119 rfl) rfl
theorem q1400 : (Jvm.Cond.unhidden "java/util/TreeMap$KeySet" "iterator" "()Ljava/util/Iterator;") ∈ lw_tbl := lw_at lw_m6 120 rfl
theorem q1401 : (Jvm.Cond.instanceMethod ({ cls := "java/util/TreeMap$KeySet", name := "iterator", desc := "()Ljava/util/Iterator;" } : Jvm.MethodName)) ∈ lw_all := lw_g (lw_at lw_m6 121 rfl) rfl
theorem q1402 : (Jvm.Cond.publicMethod ({ cls := "java/util/TreeMap$KeySet", name := "iterator", desc := "()Ljava/util/Iterator;" } : Jvm.MethodName)) ∈ lw_tbl := lw_at lw_m6 122 rfl
theorem q1403 : (Jvm.Cond.code ({ cls := "java/util/TreeMap$KeySet", name := "iterator", desc := "()Ljava/util/Iterator;" } : Jvm.MethodName) prog_86_method_2_code (1 : Nat) (Option.some (Jvm.ClassFile.FieldType.object "java/util/Iterator"))) ∈ lw_all := lw_g (lw_at lw_m6 123 rfl) rfl
theorem q1404 : (Jvm.Cond.classLink "java/util/TreeMap$KeySet" (13 : Nat) "java/util/TreeMap") ∈ lw_all := lw_g (lw_at lw_m6 124 rfl) rfl
theorem q1405 : (Jvm.Cond.methodLink "java/util/TreeMap$KeySet" (15 : Nat) ({ cls := "java/util/TreeMap", name := "keyIterator", desc := "()Ljava/util/Iterator;" } : Jvm.MethodName)) ∈ lw_all := lw_g (lw_at lw_m6 125 rfl) rfl
theorem q1406 : (Jvm.Cond.instanceMethod ({ cls := "java/util/TreeMap", name := "keyIterator", desc := "()Ljava/util/Iterator;" } : Jvm.MethodName)) ∈ lw_all := lw_g (lw_at lw_m6 126 rfl) rfl
theorem q1407 : (Jvm.Cond.selects "java/util/TreeMap" ({ cls := "java/util/TreeMap", name := "keyIterator", desc := "()Ljava/util/Iterator;" } : Jvm.MethodName) ({ cls := "java/util/TreeMap", name := "keyIterator", desc := "()Ljava/util/Iterator;" } : Jvm.MethodName)) ∈ lw_all := lw_g (lw_at lw_m6 127 rfl) rfl
theorem q1408 : (Jvm.Cond.code ({ cls := "java/util/TreeMap", name := "keyIterator", desc := "()Ljava/util/Iterator;" } : Jvm.MethodName) prog_79_method_65_code (1 : Nat) (Option.some (Jvm.ClassFile.FieldType.object "java/util/Iterator"))) ∈ lw_all := lw_g (lw_at lw_m6 128 rfl) rfl
theorem q1409 : (Jvm.Cond.classLink "java/util/TreeMap" (269 : Nat) "java/util/TreeMap$KeyIterator") ∈ lw_all := lw_g (lw_at lw_m6 129 rfl) rfl
theorem q1410 : (Jvm.Cond.instantiable "java/util/TreeMap$KeyIterator" (4 : Nat)) ∈ lw_all := lw_g (lw_at lw_m6 130 rfl) rfl
theorem q1411 : (Jvm.Cond.methodLink "java/util/TreeMap" (54 : Nat) ({ cls := "java/util/TreeMap", name := "getFirstEntry", desc := "()Ljava/util/TreeMap$Entry;" } : Jvm.MethodName)) ∈ lw_all := lw_g (lw_at lw_m6 131 rfl) rfl
theorem q1412 : (Jvm.Cond.methodLink "java/util/TreeMap" (271 : Nat) ({ cls := "java/util/TreeMap$KeyIterator", name := "<init>", desc := "(Ljava/util/TreeMap;Ljava/util/TreeMap$Entry;)V" } : Jvm.MethodName)) ∈ lw_all := lw_g (lw_at lw_m6 132 rfl) rfl
theorem q1413 : (Jvm.Cond.instanceMethod ({ cls := "java/util/TreeMap$KeyIterator", name := "<init>", desc := "(Ljava/util/TreeMap;Ljava/util/TreeMap$Entry;)V" } : Jvm.MethodName)) ∈ lw_all := lw_g (lw_at lw_m6 133 rfl) rfl
theorem q1414 : (Jvm.Cond.code ({ cls := "java/util/TreeMap$KeyIterator", name := "<init>", desc := "(Ljava/util/TreeMap;Ljava/util/TreeMap$Entry;)V" } : Jvm.MethodName) prog_85_method_1_code (3 : Nat) (Option.none : Option Jvm.ClassFile.FieldType)) ∈ lw_all := lw_g (lw_at lw_m6 134 rfl) rfl
theorem q1415 : (Jvm.Cond.methodLink "java/util/TreeMap$KeyIterator" (1 : Nat) ({ cls := "java/util/TreeMap$PrivateEntryIterator", name := "<init>", desc := "(Ljava/util/TreeMap;Ljava/util/TreeMap$Entry;)V" } : Jvm.MethodName)) ∈ lw_all := lw_g (lw_at lw_m6 135 rfl) rfl
theorem q1416 : (Jvm.Cond.lays "java/util/TreeMap$KeyIterator" "java/util/TreeMap$PrivateEntryIterator" "next" "Ljava/util/TreeMap$Entry;") ∈ lw_all := lw_g (lw_at lw_m6 136 rfl) rfl
theorem q1417 : (Jvm.Cond.lays "java/util/TreeMap$KeyIterator" "java/util/TreeMap$PrivateEntryIterator" "lastReturned" "Ljava/util/TreeMap$Entry;") ∈ lw_all := lw_g (lw_at lw_m6 137 rfl) rfl
theorem q1418 : (Jvm.Cond.lays "java/util/TreeMap$KeyIterator" "java/util/TreeMap$PrivateEntryIterator" "expectedModCount" "I") ∈ lw_all := lw_g (lw_at lw_m6 138 rfl) rfl
theorem q1419 : (Jvm.Cond.laysFinal "java/util/TreeMap$KeyIterator" "java/util/TreeMap$PrivateEntryIterator" "this$0" "Ljava/util/TreeMap;") ∈ lw_all := lw_g (lw_at lw_m6 139 rfl) rfl
theorem q1420 : (Jvm.Cond.superclass "java/util/TreeMap$KeyIterator" "java/util/TreeMap$PrivateEntryIterator") ∈ lw_all := lw_g (lw_at lw_m6 140 rfl) rfl
theorem q1421 : (Jvm.Cond.classLink "java/util/TreeMap$KeySet" (19 : Nat) "java/util/TreeMap$NavigableSubMap") ∈ lw_all := lw_g (lw_at lw_m6 141 rfl) rfl
theorem q1422 : (Jvm.Cond.methodLink "java/util/TreeMap$KeySet" (21 : Nat) ({ cls := "java/util/TreeMap$NavigableSubMap", name := "keyIterator", desc := "()Ljava/util/Iterator;" } : Jvm.MethodName)) ∈ lw_all := lw_g (lw_at lw_m6 142 rfl) rfl
theorem q1423 : (Jvm.Cond.declares ({ cls := "java/util/TreeMap$NavigableSubMap", name := "keyIterator", desc := "()Ljava/util/Iterator;" } : Jvm.MethodName)) ∈ lw_tbl := lw_at lw_m6 143 rfl
theorem q1424 : (Jvm.Cond.sameMethod "java/util/TreeMap$NavigableSubMap" "java/util/TreeMap$NavigableSubMap" "keyIterator" "()Ljava/util/Iterator;") ∈ lw_all := lw_g (lw_at lw_m6 144 rfl) rfl
theorem q1425 : (Jvm.Cond.selects "java/util/TreeMap$AscendingSubMap" ({ cls := "java/util/TreeMap$NavigableSubMap", name := "keyIterator", desc := "()Ljava/util/Iterator;" } : Jvm.MethodName) ({ cls := "java/util/TreeMap$AscendingSubMap", name := "keyIterator", desc := "()Ljava/util/Iterator;" } : Jvm.MethodName)) ∈ lw_all := lw_g (lw_at lw_m6 145 rfl) rfl
theorem q1426 : (Jvm.Cond.instanceMethod ({ cls := "java/util/TreeMap$AscendingSubMap", name := "keyIterator", desc := "()Ljava/util/Iterator;" } : Jvm.MethodName)) ∈ lw_all := lw_g (lw_at lw_m6 146 rfl) rfl
theorem q1427 : (Jvm.Cond.code ({ cls := "java/util/TreeMap$AscendingSubMap", name := "keyIterator", desc := "()Ljava/util/Iterator;" } : Jvm.MethodName) prog_80_method_7_code (1 : Nat) (Option.some (Jvm.ClassFile.FieldType.object "java/util/Iterator"))) ∈ lw_all := lw_g (lw_at lw_m6 147 rfl) rfl
theorem q1428 : (Jvm.Cond.classLink "java/util/TreeMap$AscendingSubMap" (60 : Nat) "java/util/TreeMap$NavigableSubMap$SubMapKeyIterator") ∈ lw_all := lw_g (lw_at lw_m6 148 rfl) rfl
theorem q1429 : (Jvm.Cond.instantiable "java/util/TreeMap$NavigableSubMap$SubMapKeyIterator" (6 : Nat)) ∈ lw_all := lw_g (lw_at lw_m6 149 rfl) rfl
theorem q1430 : (Jvm.Cond.methodLink "java/util/TreeMap$AscendingSubMap" (62 : Nat) ({ cls := "java/util/TreeMap$AscendingSubMap", name := "absLowest", desc := "()Ljava/util/TreeMap$Entry;" } : Jvm.MethodName)) ∈ lw_all := lw_g (lw_at lw_m6 150 rfl) rfl
theorem q1431 : (Jvm.Cond.methodLink "java/util/TreeMap$AscendingSubMap" (66 : Nat) ({ cls := "java/util/TreeMap$AscendingSubMap", name := "absHighFence", desc := "()Ljava/util/TreeMap$Entry;" } : Jvm.MethodName)) ∈ lw_all := lw_g (lw_at lw_m6 151 rfl) rfl
theorem q1432 : (Jvm.Cond.methodLink "java/util/TreeMap$AscendingSubMap" (69 : Nat) ({ cls := "java/util/TreeMap$NavigableSubMap$SubMapKeyIterator", name := "<init>", desc := "(Ljava/util/TreeMap$NavigableSubMap;Ljava/util/TreeMap$Entry;Ljava/util/TreeMap$Entry;)V" } : Jvm.MethodName)) ∈ lw_all := lw_g (lw_at lw_m6 152 rfl) rfl
theorem q1433 : (Jvm.Cond.instanceMethod ({ cls := "java/util/TreeMap$NavigableSubMap$SubMapKeyIterator", name := "<init>", desc := "(Ljava/util/TreeMap$NavigableSubMap;Ljava/util/TreeMap$Entry;Ljava/util/TreeMap$Entry;)V" } : Jvm.MethodName)) ∈ lw_all := lw_g (lw_at lw_m6 153 rfl) rfl
theorem q1434 : (Jvm.Cond.code ({ cls := "java/util/TreeMap$NavigableSubMap$SubMapKeyIterator", name := "<init>", desc := "(Ljava/util/TreeMap$NavigableSubMap;Ljava/util/TreeMap$Entry;Ljava/util/TreeMap$Entry;)V" } : Jvm.MethodName) prog_91_method_1_code (4 : Nat) (Option.none : Option Jvm.ClassFile.FieldType)) ∈ lw_all := lw_g (lw_at lw_m6 154 rfl) rfl
theorem q1435 : (Jvm.Cond.methodLink "java/util/TreeMap$NavigableSubMap$SubMapKeyIterator" (7 : Nat) ({ cls := "java/util/TreeMap$NavigableSubMap$SubMapIterator", name := "<init>", desc := "(Ljava/util/TreeMap$NavigableSubMap;Ljava/util/TreeMap$Entry;Ljava/util/TreeMap$Entry;)V" } : Jvm.MethodName)) ∈ lw_all := lw_g (lw_at lw_m6 155 rfl) rfl
theorem q1436 : (Jvm.Cond.fieldLink "java/util/TreeMap$NavigableSubMap$SubMapKeyIterator" (1 : Nat) "java/util/TreeMap$NavigableSubMap$SubMapKeyIterator" "this$0" "Ljava/util/TreeMap$NavigableSubMap;") ∈ lw_all := lw_g (lw_at lw_m6 156 rfl) rfl
theorem q1437 : (Jvm.Cond.laysFinal "java/util/TreeMap$NavigableSubMap$SubMapKeyIterator" "java/util/TreeMap$NavigableSubMap$SubMapKeyIterator" "this$0" "Ljava/util/TreeMap$NavigableSubMap;") ∈ lw_all := lw_g (lw_at lw_m6 157 rfl) rfl
theorem q1438 : (Jvm.Cond.soleField "java/util/TreeMap$NavigableSubMap$SubMapKeyIterator" "this$0") ∈ lw_all := lw_g (lw_at lw_m6 158 rfl) rfl
theorem q1439 : (Jvm.Cond.lays "java/util/TreeMap$NavigableSubMap$SubMapKeyIterator" "java/util/TreeMap$NavigableSubMap$SubMapIterator" "lastReturned" "Ljava/util/TreeMap$Entry;") ∈ lw_all := lw_g (lw_at lw_m6 159 rfl) rfl
theorem q1440 : (Jvm.Cond.lays "java/util/TreeMap$NavigableSubMap$SubMapKeyIterator" "java/util/TreeMap$NavigableSubMap$SubMapIterator" "next" "Ljava/util/TreeMap$Entry;") ∈ lw_all := lw_g (lw_at lw_m6 160 rfl) rfl
theorem q1441 : (Jvm.Cond.laysFinal "java/util/TreeMap$NavigableSubMap$SubMapKeyIterator" "java/util/TreeMap$NavigableSubMap$SubMapIterator" "fenceKey" "Ljava/lang/Object;") ∈ lw_all := lw_g (lw_at lw_m6 161 rfl) rfl
theorem q1442 : (Jvm.Cond.lays "java/util/TreeMap$NavigableSubMap$SubMapKeyIterator" "java/util/TreeMap$NavigableSubMap$SubMapIterator" "expectedModCount" "I") ∈ lw_all := lw_g (lw_at lw_m6 162 rfl) rfl
theorem q1443 : (Jvm.Cond.laysFinal "java/util/TreeMap$NavigableSubMap$SubMapKeyIterator" "java/util/TreeMap$NavigableSubMap$SubMapIterator" "this$0" "Ljava/util/TreeMap$NavigableSubMap;") ∈ lw_all := lw_g (lw_at lw_m6 163 rfl) rfl
theorem q1444 : (Jvm.Cond.superclass "java/util/TreeMap$NavigableSubMap$SubMapKeyIterator" "java/util/TreeMap$NavigableSubMap$SubMapIterator") ∈ lw_all := lw_g (lw_at lw_m6 164 rfl) rfl
theorem q1445 : (Jvm.Cond.interfaceEntry "MasterTree$Master" (78 : Nat)) ∈ lw_tbl := lw_at lw_m6 165 rfl
theorem q1446 : (Jvm.Cond.methodLink "MasterTree$Master" (78 : Nat) ({ cls := "java/util/Iterator", name := "hasNext", desc := "()Z" } : Jvm.MethodName)) ∈ lw_all := lw_g (lw_at lw_m6 166 rfl) rfl
theorem q1447 : (Jvm.Cond.interfaceMethod "java/util/Iterator" "java/util/Iterator" "hasNext" "()Z") ∈ lw_tbl := lw_at lw_m6 167 rfl
theorem q1448 : (Jvm.Cond.declares ({ cls := "java/util/Iterator", name := "hasNext", desc := "()Z" } : Jvm.MethodName)) ∈ lw_tbl := lw_at lw_m6 168 rfl
theorem q1449 : (Jvm.Cond.castable "java/util/AbstractMap$2$1" "java/util/Iterator") ∈ lw_tbl := lw_at lw_m6 169 rfl
theorem q1450 : (Jvm.Cond.selects "java/util/AbstractMap$2$1" ({ cls := "java/util/Iterator", name := "hasNext", desc := "()Z" } : Jvm.MethodName) ({ cls := "java/util/AbstractMap$2$1", name := "hasNext", desc := "()Z" } : Jvm.MethodName)) ∈ lw_all := lw_g (lw_at lw_m6 170 rfl) rfl
theorem q1451 : (Jvm.Cond.unhidden "java/util/AbstractMap$2$1" "hasNext" "()Z") ∈ lw_tbl := lw_at lw_m6 171 rfl
theorem q1452 : (Jvm.Cond.instanceMethod ({ cls := "java/util/AbstractMap$2$1", name := "hasNext", desc := "()Z" } : Jvm.MethodName)) ∈ lw_all := lw_g (lw_at lw_m6 172 rfl) rfl
theorem q1453 : (Jvm.Cond.publicMethod ({ cls := "java/util/AbstractMap$2$1", name := "hasNext", desc := "()Z" } : Jvm.MethodName)) ∈ lw_tbl := lw_at lw_m6 173 rfl
theorem q1454 : (Jvm.Cond.code ({ cls := "java/util/AbstractMap$2$1", name := "hasNext", desc := "()Z" } : Jvm.MethodName) prog_57_method_2_code (1 : Nat) (Option.some Jvm.ClassFile.FieldType.boolean)) ∈ lw_all := lw_g (lw_at lw_m6 174 rfl) rfl
theorem q1455 : (Jvm.Cond.interfaceEntry "java/util/AbstractMap$2$1" (35 : Nat)) ∈ lw_tbl := lw_at lw_m6 175 rfl
theorem q1456 : (Jvm.Cond.methodLink "java/util/AbstractMap$2$1" (35 : Nat) ({ cls := "java/util/Iterator", name := "hasNext", desc := "()Z" } : Jvm.MethodName)) ∈ lw_all := lw_g (lw_at lw_m6 176 rfl) rfl
theorem q1457 : (Jvm.Cond.castable "java/util/ArrayList$Itr" "java/util/Iterator") ∈ lw_tbl := lw_at lw_m6 177 rfl
theorem q1458 : (Jvm.Cond.selects "java/util/ArrayList$Itr" ({ cls := "java/util/Iterator", name := "hasNext", desc := "()Z" } : Jvm.MethodName) ({ cls := "java/util/ArrayList$Itr", name := "hasNext", desc := "()Z" } : Jvm.MethodName)) ∈ lw_all := lw_g (lw_at lw_m6 178 rfl) rfl
theorem q1459 : (Jvm.Cond.unhidden "java/util/ArrayList$Itr" "hasNext" "()Z") ∈ lw_tbl := lw_at lw_m6 179 rfl
theorem q1460 : (Jvm.Cond.instanceMethod ({ cls := "java/util/ArrayList$Itr", name := "hasNext", desc := "()Z" } : Jvm.MethodName)) ∈ lw_all := lw_g (lw_at lw_m6 180 rfl) rfl
theorem q1461 : (Jvm.Cond.publicMethod ({ cls := "java/util/ArrayList$Itr", name := "hasNext", desc := "()Z" } : Jvm.MethodName)) ∈ lw_tbl := lw_at lw_m6 181 rfl
theorem q1462 : (Jvm.Cond.code ({ cls := "java/util/ArrayList$Itr", name := "hasNext", desc := "()Z" } : Jvm.MethodName) prog_60_method_2_code (1 : Nat) (Option.some Jvm.ClassFile.FieldType.boolean)) ∈ lw_all := lw_g (lw_at lw_m6 182 rfl) rfl
theorem q1463 : (Jvm.Cond.castable "java/util/TreeMap$EntryIterator" "java/util/Iterator") ∈ lw_tbl := lw_at lw_m6 183 rfl
theorem q1464 : (Jvm.Cond.selects "java/util/TreeMap$EntryIterator" ({ cls := "java/util/Iterator", name := "hasNext", desc := "()Z" } : Jvm.MethodName) ({ cls := "java/util/TreeMap$PrivateEntryIterator", name := "hasNext", desc := "()Z" } : Jvm.MethodName)) ∈ lw_all := lw_g (lw_at lw_m6 184 rfl) rfl
theorem q1465 : (Jvm.Cond.unhidden "java/util/TreeMap$EntryIterator" "hasNext" "()Z") ∈ lw_tbl := lw_at lw_m6 185 rfl
theorem q1466 : (Jvm.Cond.instanceMethod ({ cls := "java/util/TreeMap$PrivateEntryIterator", name := "hasNext", desc := "()Z" } : Jvm.MethodName)) ∈ lw_all := lw_g (lw_at lw_m6 186 rfl) rfl
theorem q1467 : (Jvm.Cond.publicMethod ({ cls := "java/util/TreeMap$PrivateEntryIterator", name := "hasNext", desc := "()Z" } : Jvm.MethodName)) ∈ lw_tbl := lw_at lw_m6 187 rfl
theorem q1468 : (Jvm.Cond.code ({ cls := "java/util/TreeMap$PrivateEntryIterator", name := "hasNext", desc := "()Z" } : Jvm.MethodName) prog_92_method_2_code (1 : Nat) (Option.some Jvm.ClassFile.FieldType.boolean)) ∈ lw_all := lw_g (lw_at lw_m6 188 rfl) rfl
theorem q1469 : (Jvm.Cond.castable "java/util/TreeMap$KeyIterator" "java/util/Iterator") ∈ lw_tbl := lw_at lw_m6 189 rfl
theorem q1470 : (Jvm.Cond.selects "java/util/TreeMap$KeyIterator" ({ cls := "java/util/Iterator", name := "hasNext", desc := "()Z" } : Jvm.MethodName) ({ cls := "java/util/TreeMap$PrivateEntryIterator", name := "hasNext", desc := "()Z" } : Jvm.MethodName)) ∈ lw_all := lw_g (lw_at lw_m6 190 rfl) rfl
theorem q1471 : (Jvm.Cond.unhidden "java/util/TreeMap$KeyIterator" "hasNext" "()Z") ∈ lw_tbl := lw_at lw_m6 191 rfl
theorem q1472 : (Jvm.Cond.castable "java/util/TreeMap$NavigableSubMap$SubMapEntryIterator" "java/util/Iterator") ∈ lw_tbl := lw_at lw_m6 192 rfl
theorem q1473 : (Jvm.Cond.selects "java/util/TreeMap$NavigableSubMap$SubMapEntryIterator" ({ cls := "java/util/Iterator", name := "hasNext", desc := "()Z" } : Jvm.MethodName) ({ cls := "java/util/TreeMap$NavigableSubMap$SubMapIterator", name := "hasNext", desc := "()Z" } : Jvm.MethodName)) ∈ lw_all := lw_g (lw_at lw_m6 193 rfl) rfl
theorem q1474 : (Jvm.Cond.unhidden "java/util/TreeMap$NavigableSubMap$SubMapEntryIterator" "hasNext" "()Z") ∈ lw_tbl := lw_at lw_m6 194 rfl
theorem q1475 : (Jvm.Cond.instanceMethod ({ cls := "java/util/TreeMap$NavigableSubMap$SubMapIterator", name := "hasNext", desc := "()Z" } : Jvm.MethodName)) ∈ lw_all := lw_g (lw_at lw_m6 195 rfl) rfl
theorem q1476 : (Jvm.Cond.publicMethod ({ cls := "java/util/TreeMap$NavigableSubMap$SubMapIterator", name := "hasNext", desc := "()Z" } : Jvm.MethodName)) ∈ lw_tbl := lw_at lw_m6 196 rfl
theorem q1477 : (Jvm.Cond.code ({ cls := "java/util/TreeMap$NavigableSubMap$SubMapIterator", name := "hasNext", desc := "()Z" } : Jvm.MethodName) prog_90_method_2_code (1 : Nat) (Option.some Jvm.ClassFile.FieldType.boolean)) ∈ lw_all := lw_g (lw_at lw_m6 197 rfl) rfl
theorem q1478 : (Jvm.Cond.castable "java/util/TreeMap$NavigableSubMap$SubMapKeyIterator" "java/util/Iterator") ∈ lw_tbl := lw_at lw_m6 198 rfl
theorem q1479 : (Jvm.Cond.selects "java/util/TreeMap$NavigableSubMap$SubMapKeyIterator" ({ cls := "java/util/Iterator", name := "hasNext", desc := "()Z" } : Jvm.MethodName) ({ cls := "java/util/TreeMap$NavigableSubMap$SubMapIterator", name := "hasNext", desc := "()Z" } : Jvm.MethodName)) ∈ lw_all := lw_g (lw_at lw_m6 199 rfl) rfl
theorem q1480 : (Jvm.Cond.unhidden "java/util/TreeMap$NavigableSubMap$SubMapKeyIterator" "hasNext" "()Z") ∈ lw_tbl := lw_at lw_m6 200 rfl
theorem q1481 : (Jvm.Cond.castable "java/util/TreeMap$ValueIterator" "java/util/Iterator") ∈ lw_tbl := lw_at lw_m6 201 rfl
theorem q1482 : (Jvm.Cond.selects "java/util/TreeMap$ValueIterator" ({ cls := "java/util/Iterator", name := "hasNext", desc := "()Z" } : Jvm.MethodName) ({ cls := "java/util/TreeMap$PrivateEntryIterator", name := "hasNext", desc := "()Z" } : Jvm.MethodName)) ∈ lw_all := lw_g (lw_at lw_m6 202 rfl) rfl
theorem q1483 : (Jvm.Cond.unhidden "java/util/TreeMap$ValueIterator" "hasNext" "()Z") ∈ lw_tbl := lw_at lw_m6 203 rfl
theorem q1484 : (Jvm.Cond.interfaceEntry "MasterTree$Master" (83 : Nat)) ∈ lw_tbl := lw_at lw_m6 204 rfl
theorem q1485 : (Jvm.Cond.methodLink "MasterTree$Master" (83 : Nat) ({ cls := "java/util/Iterator", name := "next", desc := "()Ljava/lang/Object;" } : Jvm.MethodName)) ∈ lw_all := lw_g (lw_at lw_m6 205 rfl) rfl
theorem q1486 : (Jvm.Cond.interfaceMethod "java/util/Iterator" "java/util/Iterator" "next" "()Ljava/lang/Object;") ∈ lw_tbl := lw_at lw_m6 206 rfl
theorem q1487 : (Jvm.Cond.declares ({ cls := "java/util/Iterator", name := "next", desc := "()Ljava/lang/Object;" } : Jvm.MethodName)) ∈ lw_tbl := lw_at lw_m6 207 rfl
theorem q1488 : (Jvm.Cond.selects "java/util/AbstractMap$2$1" ({ cls := "java/util/Iterator", name := "next", desc := "()Ljava/lang/Object;" } : Jvm.MethodName) ({ cls := "java/util/AbstractMap$2$1", name := "next", desc := "()Ljava/lang/Object;" } : Jvm.MethodName)) ∈ lw_all := lw_g (lw_at lw_m6 208 rfl) rfl
theorem q1489 : (Jvm.Cond.unhidden "java/util/AbstractMap$2$1" "next" "()Ljava/lang/Object;") ∈ lw_tbl := lw_at lw_m6 209 rfl
theorem q1490 : (Jvm.Cond.instanceMethod ({ cls := "java/util/AbstractMap$2$1", name := "next", desc := "()Ljava/lang/Object;" } : Jvm.MethodName)) ∈ lw_all := lw_g (lw_at lw_m6 210 rfl) rfl
theorem q1491 : (Jvm.Cond.publicMethod ({ cls := "java/util/AbstractMap$2$1", name := "next", desc := "()Ljava/lang/Object;" } : Jvm.MethodName)) ∈ lw_tbl := lw_at lw_m6 211 rfl
theorem q1492 : (Jvm.Cond.code ({ cls := "java/util/AbstractMap$2$1", name := "next", desc := "()Ljava/lang/Object;" } : Jvm.MethodName) prog_57_method_3_code (1 : Nat) (Option.some (Jvm.ClassFile.FieldType.object "java/lang/Object"))) ∈ lw_all := lw_g (lw_at lw_m6 212 rfl) rfl
theorem q1493 : (Jvm.Cond.interfaceEntry "java/util/AbstractMap$2$1" (41 : Nat)) ∈ lw_tbl := lw_at lw_m6 213 rfl
theorem q1494 : (Jvm.Cond.methodLink "java/util/AbstractMap$2$1" (41 : Nat) ({ cls := "java/util/Iterator", name := "next", desc := "()Ljava/lang/Object;" } : Jvm.MethodName)) ∈ lw_all := lw_g (lw_at lw_m6 214 rfl) rfl
theorem q1495 : (Jvm.Cond.selects "java/util/ArrayList$Itr" ({ cls := "java/util/Iterator", name := "next", desc := "()Ljava/lang/Object;" } : Jvm.MethodName) ({ cls := "java/util/ArrayList$Itr", name := "next", desc := "()Ljava/lang/Object;" } : Jvm.MethodName)) ∈ lw_all := lw_g (lw_at lw_m6 215 rfl) rfl
theorem q1496 : (Jvm.Cond.unhidden "java/util/ArrayList$Itr" "next" "()Ljava/lang/Object;") ∈ lw_tbl := lw_at lw_m6 216 rfl
theorem q1497 : (Jvm.Cond.instanceMethod ({ cls := "java/util/ArrayList$Itr", name := "next", desc := "()Ljava/lang/Object;" } : Jvm.MethodName)) ∈ lw_all := lw_g (lw_at lw_m6 217 rfl) rfl
theorem q1498 : (Jvm.Cond.publicMethod ({ cls := "java/util/ArrayList$Itr", name := "next", desc := "()Ljava/lang/Object;" } : Jvm.MethodName)) ∈ lw_tbl := lw_at lw_m6 218 rfl
theorem q1499 : (Jvm.Cond.code ({ cls := "java/util/ArrayList$Itr", name := "next", desc := "()Ljava/lang/Object;" } : Jvm.MethodName) prog_60_method_3_code (3 : Nat) (Option.some (Jvm.ClassFile.FieldType.object "java/lang/Object"))) ∈ lw_all := lw_g (lw_at lw_m6 219 rfl) rfl
theorem q1500 : (Jvm.Cond.methodLink "java/util/ArrayList$Itr" (31 : Nat) ({ cls := "java/util/ArrayList$Itr", name := "checkForComodification", desc := "()V" } : Jvm.MethodName)) ∈ lw_all := lw_g (lw_at lw_m6 220 rfl) rfl
theorem q1501 : (Jvm.Cond.instanceMethod ({ cls := "java/util/ArrayList$Itr", name := "checkForComodification", desc := "()V" } : Jvm.MethodName)) ∈ lw_all := lw_g (lw_at lw_m6 221 rfl) rfl
theorem q1502 : (Jvm.Cond.selects "java/util/ArrayList$Itr" ({ cls := "java/util/ArrayList$Itr", name := "checkForComodification", desc := "()V" } : Jvm.MethodName) ({ cls := "java/util/ArrayList$Itr", name := "checkForComodification", desc := "()V" } : Jvm.MethodName)) ∈ lw_all := lw_g (lw_at lw_m6 222 rfl) rfl
theorem q1503 : (Jvm.Cond.code ({ cls := "java/util/ArrayList$Itr", name := "checkForComodification", desc := "()V" } : Jvm.MethodName) prog_60_method_6_code (1 : Nat) (Option.none : Option Jvm.ClassFile.FieldType)) ∈ lw_all := lw_g (lw_at lw_m6 223 rfl) rfl
theorem q1504 : (Jvm.Cond.selects "java/util/TreeMap$EntryIterator" ({ cls := "java/util/Iterator", name := "next", desc := "()Ljava/lang/Object;" } : Jvm.MethodName) ({ cls := "java/util/TreeMap$EntryIterator", name := "next", desc := "()Ljava/lang/Object;" } : Jvm.MethodName)) ∈ lw_all := lw_g (lw_at lw_m6 224 rfl) rfl
theorem q1505 : (Jvm.Cond.unhidden "java/util/TreeMap$EntryIterator" "next" "()Ljava/lang/Object;") ∈ lw_tbl := lw_at lw_m6 225 rfl
theorem q1506 : (Jvm.Cond.instanceMethod ({ cls := "java/util/TreeMap$EntryIterator", name := "next", desc := "()Ljava/lang/Object;" } : Jvm.MethodName)) ∈ lw_all := lw_g (lw_at lw_m6 226 rfl) rfl
theorem q1507 : (Jvm.Cond.publicMethod ({ cls := "java/util/TreeMap$EntryIterator", name := "next", desc := "()Ljava/lang/Object;" } : Jvm.MethodName)) ∈ lw_tbl := lw_at lw_m6 227 rfl
theorem q1508 : (Jvm.Cond.code ({ cls := "java/util/TreeMap$EntryIterator", name := "next", desc := "()Ljava/lang/Object;" } : Jvm.MethodName) prog_83_method_3_code (1 : Nat) (Option.some (Jvm.ClassFile.FieldType.object "java/lang/Object"))) ∈ lw_all := lw_g (lw_at lw_m6 228 rfl) rfl
theorem q1509 : (Jvm.Cond.methodLink "java/util/TreeMap$EntryIterator" (13 : Nat) ({ cls := "java/util/TreeMap$EntryIterator", name := "next", desc := "()Ljava/util/Map$Entry;" } : Jvm.MethodName)) ∈ lw_all := lw_g (lw_at lw_m6 229 rfl) rfl
theorem q1510 : (Jvm.Cond.instanceMethod ({ cls := "java/util/TreeMap$EntryIterator", name := "next", desc := "()Ljava/util/Map$Entry;" } : Jvm.MethodName)) ∈ lw_all := lw_g (lw_at lw_m6 230 rfl) rfl
theorem q1511 : (Jvm.Cond.selects "java/util/TreeMap$EntryIterator" ({ cls := "java/util/TreeMap$EntryIterator", name := "next", desc := "()Ljava/util/Map$Entry;" } : Jvm.MethodName) ({ cls := "java/util/TreeMap$EntryIterator", name := "next", desc := "()Ljava/util/Map$Entry;" } : Jvm.MethodName)) ∈ lw_all := lw_g (lw_at lw_m6 231 rfl) rfl
theorem q1512 : (Jvm.Cond.code ({ cls := "java/util/TreeMap$EntryIterator", name := "next", desc := "()Ljava/util/Map$Entry;" } : Jvm.MethodName) prog_83_method_2_code (1 : Nat) (Option.some (Jvm.ClassFile.FieldType.object "java/util/Map$Entry"))) ∈ lw_all := lw_g (lw_at lw_m6 232 rfl) rfl
theorem q1513 : (Jvm.Cond.methodLink "java/util/TreeMap$EntryIterator" (7 : Nat) ({ cls := "java/util/TreeMap$EntryIterator", name := "nextEntry", desc := "()Ljava/util/TreeMap$Entry;" } : Jvm.MethodName)) ∈ lw_all := lw_g (lw_at lw_m6 233 rfl) rfl
theorem q1514 : (Jvm.Cond.sameMethod "java/util/TreeMap$EntryIterator" "java/util/TreeMap$PrivateEntryIterator" "nextEntry" "()Ljava/util/TreeMap$Entry;") ∈ lw_all := lw_g (lw_at lw_m6 234 rfl) rfl
theorem q1515 : (Jvm.Cond.declares ({ cls := "java/util/TreeMap$PrivateEntryIterator", name := "nextEntry", desc := "()Ljava/util/TreeMap$Entry;" } : Jvm.MethodName)) ∈ lw_tbl := lw_at lw_m6 235 rfl
theorem q1516 : (Jvm.Cond.selects "java/util/TreeMap$EntryIterator" ({ cls := "java/util/TreeMap$EntryIterator", name := "nextEntry", desc := "()Ljava/util/TreeMap$Entry;" } : Jvm.MethodName) ({ cls := "java/util/TreeMap$PrivateEntryIterator", name := "nextEntry", desc := "()Ljava/util/TreeMap$Entry;" } : Jvm.MethodName)) ∈ lw_all := lw_g (lw_at lw_m6 236 rfl) rfl
theorem q1517 : (Jvm.Cond.instanceMethod ({ cls := "java/util/TreeMap$PrivateEntryIterator", name := "nextEntry", desc := "()Ljava/util/TreeMap$Entry;" } : Jvm.MethodName)) ∈ lw_all := lw_g (lw_at lw_m6 237 rfl) rfl
theorem q1518 : (Jvm.Cond.code ({ cls := "java/util/TreeMap$PrivateEntryIterator", name := "nextEntry", desc := "()Ljava/util/TreeMap$Entry;" } : Jvm.MethodName) prog_92_method_3_code (2 : Nat) (Option.some (Jvm.ClassFile.FieldType.object "java/util/TreeMap$Entry"))) ∈ lw_all := lw_g (lw_at lw_m6 238 rfl) rfl
theorem q1519 : (Jvm.Cond.methodLink "java/util/TreeMap$PrivateEntryIterator" (35 : Nat) ({ cls := "java/util/TreeMap", name := "successor", desc := "(Ljava/util/TreeMap$Entry;)Ljava/util/TreeMap$Entry;" } : Jvm.MethodName)) ∈ lw_all := lw_g (lw_at lw_m6 239 rfl) rfl
theorem q1520 : (Jvm.Cond.static ({ cls := "java/util/TreeMap", name := "successor", desc := "(Ljava/util/TreeMap$Entry;)Ljava/util/TreeMap$Entry;" } : Jvm.MethodName)) ∈ lw_all := lw_g (lw_at lw_m7 0 rfl) rfl
theorem q1521 : (Jvm.Cond.code ({ cls := "java/util/TreeMap", name := "successor", desc := "(Ljava/util/TreeMap$Entry;)Ljava/util/TreeMap$Entry;" } : Jvm.MethodName) prog_79_method_74_code (3 : Nat) (Option.some (Jvm.ClassFile.FieldType.object "java/util/TreeMap$Entry"))) ∈ lw_all := lw_g (lw_at lw_m7 1 rfl) rfl
theorem q1522 : (Jvm.Cond.selects "java/util/TreeMap$KeyIterator" ({ cls := "java/util/Iterator", name := "next", desc := "()Ljava/lang/Object;" } : Jvm.MethodName) ({ cls := "java/util/TreeMap$KeyIterator", name := "next", desc := "()Ljava/lang/Object;" } : Jvm.MethodName)) ∈ lw_all := lw_g (lw_at lw_m7 2 rfl) rfl
theorem q1523 : (Jvm.Cond.unhidden "java/util/TreeMap$KeyIterator" "next" "()Ljava/lang/Object;") ∈ lw_tbl := lw_at lw_m7 3 rfl
theorem q1524 : (Jvm.Cond.instanceMethod ({ cls := "java/util/TreeMap$KeyIterator", name := "next", desc := "()Ljava/lang/Object;" } : Jvm.MethodName)) ∈ lw_all := lw_g (lw_at lw_m7 4 rfl) rfl
theorem q1525 : (Jvm.Cond.publicMethod ({ cls := "java/util/TreeMap$KeyIterator", name := "next", desc := "()Ljava/lang/Object;" } : Jvm.MethodName)) ∈ lw_tbl := lw_at lw_m7 5 rfl
theorem q1526 : (Jvm.Cond.code ({ cls := "java/util/TreeMap$KeyIterator", name := "next", desc := "()Ljava/lang/Object;" } : Jvm.MethodName) prog_85_method_2_code (1 : Nat) (Option.some (Jvm.ClassFile.FieldType.object "java/lang/Object"))) ∈ lw_all := lw_g (lw_at lw_m7 6 rfl) rfl
theorem q1527 : (Jvm.Cond.methodLink "java/util/TreeMap$KeyIterator" (7 : Nat) ({ cls := "java/util/TreeMap$KeyIterator", name := "nextEntry", desc := "()Ljava/util/TreeMap$Entry;" } : Jvm.MethodName)) ∈ lw_all := lw_g (lw_at lw_m7 7 rfl) rfl
theorem q1528 : (Jvm.Cond.sameMethod "java/util/TreeMap$KeyIterator" "java/util/TreeMap$PrivateEntryIterator" "nextEntry" "()Ljava/util/TreeMap$Entry;") ∈ lw_all := lw_g (lw_at lw_m7 8 rfl) rfl
theorem q1529 : (Jvm.Cond.selects "java/util/TreeMap$KeyIterator" ({ cls := "java/util/TreeMap$KeyIterator", name := "nextEntry", desc := "()Ljava/util/TreeMap$Entry;" } : Jvm.MethodName) ({ cls := "java/util/TreeMap$PrivateEntryIterator", name := "nextEntry", desc := "()Ljava/util/TreeMap$Entry;" } : Jvm.MethodName)) ∈ lw_all := lw_g (lw_at lw_m7 9 rfl) rfl
theorem q1530 : (Jvm.Cond.selects "java/util/TreeMap$NavigableSubMap$SubMapEntryIterator" ({ cls := "java/util/Iterator", name := "next", desc := "()Ljava/lang/Object;" } : Jvm.MethodName) ({ cls := "java/util/TreeMap$NavigableSubMap$SubMapEntryIterator", name := "next", desc := "()Ljava/lang/Object;" } : Jvm.MethodName)) ∈ lw_all := lw_g (lw_at lw_m7 10 rfl) rfl
theorem q1531 : (Jvm.Cond.unhidden "java/util/TreeMap$NavigableSubMap$SubMapEntryIterator" "next" "()Ljava/lang/Object;") ∈ lw_tbl := lw_at lw_m7 11 rfl
theorem q1532 : (Jvm.Cond.instanceMethod ({ cls := "java/util/TreeMap$NavigableSubMap$SubMapEntryIterator", name := "next", desc := "()Ljava/lang/Object;" } : Jvm.MethodName)) ∈ lw_all := lw_g (lw_at lw_m7 12 rfl) rfl
theorem q1533 : (Jvm.Cond.publicMethod ({ cls := "java/util/TreeMap$NavigableSubMap$SubMapEntryIterator", name := "next", desc := "()Ljava/lang/Object;" } : Jvm.MethodName)) ∈ lw_tbl := lw_at lw_m7 13 rfl
theorem q1534 : (Jvm.Cond.code ({ cls := "java/util/TreeMap$NavigableSubMap$SubMapEntryIterator", name := "next", desc := "()Ljava/lang/Object;" } : Jvm.MethodName) prog_89_method_4_code (1 : Nat) (Option.some (Jvm.ClassFile.FieldType.object "java/lang/Object"))) ∈ lw_all := lw_g (lw_at lw_m7 14 rfl) rfl
theorem q1535 : (Jvm.Cond.methodLink "java/util/TreeMap$NavigableSubMap$SubMapEntryIterator" (17 : Nat) ({ cls := "java/util/TreeMap$NavigableSubMap$SubMapEntryIterator", name := "next", desc := "()Ljava/util/Map$Entry;" } : Jvm.MethodName)) ∈ lw_all := lw_g (lw_at lw_m7 15 rfl) rfl
theorem q1536 : (Jvm.Cond.instanceMethod ({ cls := "java/util/TreeMap$NavigableSubMap$SubMapEntryIterator", name := "next", desc := "()Ljava/util/Map$Entry;" } : Jvm.MethodName)) ∈ lw_all := lw_g (lw_at lw_m7 16 rfl) rfl
theorem q1537 : (Jvm.Cond.selects "java/util/TreeMap$NavigableSubMap$SubMapEntryIterator" ({ cls := "java/util/TreeMap$NavigableSubMap$SubMapEntryIterator", name := "next", desc := "()Ljava/util/Map$Entry;" } : Jvm.MethodName) ({ cls := "java/util/TreeMap$NavigableSubMap$SubMapEntryIterator", name := "next", desc := "()Ljava/util/Map$Entry;" } : Jvm.MethodName)) ∈ lw_all := lw_g (lw_at lw_m7 17 rfl) rfl
theorem q1538 : (Jvm.Cond.code ({ cls := "java/util/TreeMap$NavigableSubMap$SubMapEntryIterator", name := "next", desc := "()Ljava/util/Map$Entry;" } : Jvm.MethodName) prog_89_method_2_code (1 : Nat) (Option.some (Jvm.ClassFile.FieldType.object "java/util/Map$Entry"))) ∈ lw_all := lw_g (lw_at lw_m7 18 rfl) rfl
theorem q1539 : (Jvm.Cond.methodLink "java/util/TreeMap$NavigableSubMap$SubMapEntryIterator" (7 : Nat) ({ cls := "java/util/TreeMap$NavigableSubMap$SubMapEntryIterator", name := "nextEntry", desc := "()Ljava/util/TreeMap$Entry;" } : Jvm.MethodName)) ∈ lw_all := lw_g (lw_at lw_m7 19 rfl) rfl
theorem q1540 : (Jvm.Cond.sameMethod "java/util/TreeMap$NavigableSubMap$SubMapEntryIterator" "java/util/TreeMap$NavigableSubMap$SubMapIterator" "nextEntry" "()Ljava/util/TreeMap$Entry;") ∈ lw_all := lw_g (lw_at lw_m7 20 rfl) rfl
theorem q1541 : (Jvm.Cond.declares ({ cls := "java/util/TreeMap$NavigableSubMap$SubMapIterator", name := "nextEntry", desc := "()Ljava/util/TreeMap$Entry;" } : Jvm.MethodName)) ∈ lw_tbl := lw_at lw_m7 21 rfl
theorem q1542 : (Jvm.Cond.selects "java/util/TreeMap$NavigableSubMap$SubMapEntryIterator" ({ cls := "java/util/TreeMap$NavigableSubMap$SubMapEntryIterator", name := "nextEntry", desc := "()Ljava/util/TreeMap$Entry;" } : Jvm.MethodName) ({ cls := "java/util/TreeMap$NavigableSubMap$SubMapIterator", name := "nextEntry", desc := "()Ljava/util/TreeMap$Entry;" } : Jvm.MethodName)) ∈ lw_all := lw_g (lw_at lw_m7 22 rfl) rfl
theorem q1543 : (Jvm.Cond.instanceMethod ({ cls := "java/util/TreeMap$NavigableSubMap$SubMapIterator", name := "nextEntry", desc := "()Ljava/util/TreeMap$Entry;" } : Jvm.MethodName)) ∈ lw_all := lw_g (lw_at lw_m7 23 rfl) rfl
theorem q1544 : (Jvm.Cond.code ({ cls := "java/util/TreeMap$NavigableSubMap$SubMapIterator", name := "nextEntry", desc := "()Ljava/util/TreeMap$Entry;" } : Jvm.MethodName) prog_90_method_3_code (2 : Nat) (Option.some (Jvm.ClassFile.FieldType.object "java/util/TreeMap$Entry"))) ∈ lw_all := lw_g (lw_at lw_m7 24 rfl) rfl
theorem q1545 : (Jvm.Cond.methodLink "java/util/TreeMap$NavigableSubMap$SubMapIterator" (53 : Nat) ({ cls := "java/util/TreeMap", name := "successor", desc := "(Ljava/util/TreeMap$Entry;)Ljava/util/TreeMap$Entry;" } : Jvm.MethodName)) ∈ lw_all := lw_g (lw_at lw_m7 25 rfl) rfl
theorem q1546 : (Jvm.Cond.selects "java/util/TreeMap$NavigableSubMap$SubMapKeyIterator" ({ cls := "java/util/Iterator", name := "next", desc := "()Ljava/lang/Object;" } : Jvm.MethodName) ({ cls := "java/util/TreeMap$NavigableSubMap$SubMapKeyIterator", name := "next", desc := "()Ljava/lang/Object;" } : Jvm.MethodName)) ∈ lw_all := lw_g (lw_at lw_m7 26 rfl) rfl
theorem q1547 : (Jvm.Cond.unhidden "java/util/TreeMap$NavigableSubMap$SubMapKeyIterator" "next" "()Ljava/lang/Object;") ∈ lw_tbl := lw_at lw_m7 27 rfl
theorem q1548 : (Jvm.Cond.instanceMethod ({ cls := "java/util/TreeMap$NavigableSubMap$SubMapKeyIterator", name := "next", desc := "()Ljava/lang/Object;" } : Jvm.MethodName)) ∈ lw_all := lw_g (lw_at lw_m7 28 rfl) rfl
theorem q1549 : (Jvm.Cond.publicMethod ({ cls := "java/util/TreeMap$NavigableSubMap$SubMapKeyIterator", name := "next", desc := "()Ljava/lang/Object;" } : Jvm.MethodName)) ∈ lw_tbl := lw_at lw_m7 29 rfl
theorem q1550 : (Jvm.Cond.code ({ cls := "java/util/TreeMap$NavigableSubMap$SubMapKeyIterator", name := "next", desc := "()Ljava/lang/Object;" } : Jvm.MethodName) prog_91_method_2_code (1 : Nat) (Option.some (Jvm.ClassFile.FieldType.object "java/lang/Object"))) ∈ lw_all := lw_g (lw_at lw_m7 30 rfl) rfl
theorem q1551 : (Jvm.Cond.methodLink "java/util/TreeMap$NavigableSubMap$SubMapKeyIterator" (13 : Nat) ({ cls := "java/util/TreeMap$NavigableSubMap$SubMapKeyIterator", name := "nextEntry", desc := "()Ljava/util/TreeMap$Entry;" } : Jvm.MethodName)) ∈ lw_all := lw_g (lw_at lw_m7 31 rfl) rfl
theorem q1552 : (Jvm.Cond.sameMethod "java/util/TreeMap$NavigableSubMap$SubMapKeyIterator" "java/util/TreeMap$NavigableSubMap$SubMapIterator" "nextEntry" "()Ljava/util/TreeMap$Entry;") ∈ lw_all := lw_g (lw_at lw_m7 32 rfl) rfl
theorem q1553 : (Jvm.Cond.selects "java/util/TreeMap$NavigableSubMap$SubMapKeyIterator" ({ cls := "java/util/TreeMap$NavigableSubMap$SubMapKeyIterator", name := "nextEntry", desc := "()Ljava/util/TreeMap$Entry;" } : Jvm.MethodName) ({ cls := "java/util/TreeMap$NavigableSubMap$SubMapIterator", name := "nextEntry", desc := "()Ljava/util/TreeMap$Entry;" } : Jvm.MethodName)) ∈ lw_all := lw_g (lw_at lw_m7 33 rfl) rfl
theorem q1554 : (Jvm.Cond.selects "java/util/TreeMap$ValueIterator" ({ cls := "java/util/Iterator", name := "next", desc := "()Ljava/lang/Object;" } : Jvm.MethodName) ({ cls := "java/util/TreeMap$ValueIterator", name := "next", desc := "()Ljava/lang/Object;" } : Jvm.MethodName)) ∈ lw_all := lw_g (lw_at lw_m7 34 rfl) rfl
theorem q1555 : (Jvm.Cond.unhidden "java/util/TreeMap$ValueIterator" "next" "()Ljava/lang/Object;") ∈ lw_tbl := lw_at lw_m7 35 rfl
theorem q1556 : (Jvm.Cond.instanceMethod ({ cls := "java/util/TreeMap$ValueIterator", name := "next", desc := "()Ljava/lang/Object;" } : Jvm.MethodName)) ∈ lw_all := lw_g (lw_at lw_m7 36 rfl) rfl
theorem q1557 : (Jvm.Cond.publicMethod ({ cls := "java/util/TreeMap$ValueIterator", name := "next", desc := "()Ljava/lang/Object;" } : Jvm.MethodName)) ∈ lw_tbl := lw_at lw_m7 37 rfl
theorem q1558 : (Jvm.Cond.code ({ cls := "java/util/TreeMap$ValueIterator", name := "next", desc := "()Ljava/lang/Object;" } : Jvm.MethodName) prog_93_method_2_code (1 : Nat) (Option.some (Jvm.ClassFile.FieldType.object "java/lang/Object"))) ∈ lw_all := lw_g (lw_at lw_m7 38 rfl) rfl
theorem q1559 : (Jvm.Cond.methodLink "java/util/TreeMap$ValueIterator" (7 : Nat) ({ cls := "java/util/TreeMap$ValueIterator", name := "nextEntry", desc := "()Ljava/util/TreeMap$Entry;" } : Jvm.MethodName)) ∈ lw_all := lw_g (lw_at lw_m7 39 rfl) rfl
theorem q1560 : (Jvm.Cond.sameMethod "java/util/TreeMap$ValueIterator" "java/util/TreeMap$PrivateEntryIterator" "nextEntry" "()Ljava/util/TreeMap$Entry;") ∈ lw_all := lw_g (lw_at lw_m7 40 rfl) rfl
theorem q1561 : (Jvm.Cond.selects "java/util/TreeMap$ValueIterator" ({ cls := "java/util/TreeMap$ValueIterator", name := "nextEntry", desc := "()Ljava/util/TreeMap$Entry;" } : Jvm.MethodName) ({ cls := "java/util/TreeMap$PrivateEntryIterator", name := "nextEntry", desc := "()Ljava/util/TreeMap$Entry;" } : Jvm.MethodName)) ∈ lw_all := lw_g (lw_at lw_m7 41 rfl) rfl
theorem q1562 : (Jvm.Cond.classLink "java/util/AbstractMap$2$1" (45 : Nat) "java/util/Map$Entry") ∈ lw_all := lw_g (lw_at lw_m7 42 rfl) rfl
theorem q1563 : (Jvm.Cond.interfaceEntry "java/util/AbstractMap$2$1" (47 : Nat)) ∈ lw_tbl := lw_at lw_m7 43 rfl
theorem q1564 : (Jvm.Cond.methodLink "java/util/AbstractMap$2$1" (47 : Nat) ({ cls := "java/util/Map$Entry", name := "getValue", desc := "()Ljava/lang/Object;" } : Jvm.MethodName)) ∈ lw_all := lw_g (lw_at lw_m7 44 rfl) rfl
theorem q1565 : (Jvm.Cond.interfaceMethod "java/util/Map$Entry" "java/util/Map$Entry" "getValue" "()Ljava/lang/Object;") ∈ lw_tbl := lw_at lw_m7 45 rfl
theorem q1566 : (Jvm.Cond.declares ({ cls := "java/util/Map$Entry", name := "getValue", desc := "()Ljava/lang/Object;" } : Jvm.MethodName)) ∈ lw_tbl := lw_at lw_m7 46 rfl
theorem q1567 : (Jvm.Cond.castable "java/util/TreeMap$Entry" "java/util/Map$Entry") ∈ lw_tbl := lw_at lw_m7 47 rfl
theorem q1568 : (Jvm.Cond.selects "java/util/TreeMap$Entry" ({ cls := "java/util/Map$Entry", name := "getValue", desc := "()Ljava/lang/Object;" } : Jvm.MethodName) ({ cls := "java/util/TreeMap$Entry", name := "getValue", desc := "()Ljava/lang/Object;" } : Jvm.MethodName)) ∈ lw_all := lw_g (lw_at lw_m7 48 rfl) rfl
theorem q1569 : (Jvm.Cond.unhidden "java/util/TreeMap$Entry" "getValue" "()Ljava/lang/Object;") ∈ lw_tbl := lw_at lw_m7 49 rfl
theorem q1570 : (Jvm.Cond.instanceMethod ({ cls := "java/util/TreeMap$Entry", name := "getValue", desc := "()Ljava/lang/Object;" } : Jvm.MethodName)) ∈ lw_all := lw_g (lw_at lw_m7 50 rfl) rfl
theorem q1571 : (Jvm.Cond.publicMethod ({ cls := "java/util/TreeMap$Entry", name := "getValue", desc := "()Ljava/lang/Object;" } : Jvm.MethodName)) ∈ lw_tbl := lw_at lw_m7 51 rfl
theorem q1572 : (Jvm.Cond.code ({ cls := "java/util/TreeMap$Entry", name := "getValue", desc := "()Ljava/lang/Object;" } : Jvm.MethodName) prog_82_method_3_code (1 : Nat) (Option.some (Jvm.ClassFile.FieldType.object "java/lang/Object"))) ∈ lw_all := lw_g (lw_at lw_m7 52 rfl) rfl
theorem q1573 : (Jvm.Cond.classLink "MasterTree$Master" (224 : Nat) "java/util/Map$Entry") ∈ lw_all := lw_g (lw_at lw_m7 53 rfl) rfl
theorem q1574 : (Jvm.Cond.interfaceEntry "MasterTree$Master" (226 : Nat)) ∈ lw_tbl := lw_at lw_m7 54 rfl
theorem q1575 : (Jvm.Cond.methodLink "MasterTree$Master" (226 : Nat) ({ cls := "java/util/Map$Entry", name := "getKey", desc := "()Ljava/lang/Object;" } : Jvm.MethodName)) ∈ lw_all := lw_g (lw_at lw_m7 55 rfl) rfl
theorem q1576 : (Jvm.Cond.interfaceMethod "java/util/Map$Entry" "java/util/Map$Entry" "getKey" "()Ljava/lang/Object;") ∈ lw_tbl := lw_at lw_m7 56 rfl
theorem q1577 : (Jvm.Cond.declares ({ cls := "java/util/Map$Entry", name := "getKey", desc := "()Ljava/lang/Object;" } : Jvm.MethodName)) ∈ lw_tbl := lw_at lw_m7 57 rfl
theorem q1578 : (Jvm.Cond.selects "java/util/TreeMap$Entry" ({ cls := "java/util/Map$Entry", name := "getKey", desc := "()Ljava/lang/Object;" } : Jvm.MethodName) ({ cls := "java/util/TreeMap$Entry", name := "getKey", desc := "()Ljava/lang/Object;" } : Jvm.MethodName)) ∈ lw_all := lw_g (lw_at lw_m7 58 rfl) rfl
theorem q1579 : (Jvm.Cond.unhidden "java/util/TreeMap$Entry" "getKey" "()Ljava/lang/Object;") ∈ lw_tbl := lw_at lw_m7 59 rfl
theorem q1580 : (Jvm.Cond.instanceMethod ({ cls := "java/util/TreeMap$Entry", name := "getKey", desc := "()Ljava/lang/Object;" } : Jvm.MethodName)) ∈ lw_all := lw_g (lw_at lw_m7 60 rfl) rfl
theorem q1581 : (Jvm.Cond.publicMethod ({ cls := "java/util/TreeMap$Entry", name := "getKey", desc := "()Ljava/lang/Object;" } : Jvm.MethodName)) ∈ lw_tbl := lw_at lw_m7 61 rfl
theorem q1582 : (Jvm.Cond.code ({ cls := "java/util/TreeMap$Entry", name := "getKey", desc := "()Ljava/lang/Object;" } : Jvm.MethodName) prog_82_method_2_code (1 : Nat) (Option.some (Jvm.ClassFile.FieldType.object "java/lang/Object"))) ∈ lw_all := lw_g (lw_at lw_m7 62 rfl) rfl
theorem q1583 : (Jvm.Cond.classLink "MasterTree$Master" (87 : Nat) "java/lang/Integer") ∈ lw_all := lw_g (lw_at lw_m7 63 rfl) rfl
theorem q1584 : (Jvm.Cond.methodLink "MasterTree$Master" (89 : Nat) ({ cls := "java/lang/Integer", name := "intValue", desc := "()I" } : Jvm.MethodName)) ∈ lw_all := lw_g (lw_at lw_m7 64 rfl) rfl
theorem q1585 : (Jvm.Cond.instanceMethod ({ cls := "java/lang/Integer", name := "intValue", desc := "()I" } : Jvm.MethodName)) ∈ lw_all := lw_g (lw_at lw_m7 65 rfl) rfl
theorem q1586 : (Jvm.Cond.selects "java/lang/Integer" ({ cls := "java/lang/Integer", name := "intValue", desc := "()I" } : Jvm.MethodName) ({ cls := "java/lang/Integer", name := "intValue", desc := "()I" } : Jvm.MethodName)) ∈ lw_all := lw_g (lw_at lw_m7 66 rfl) rfl
theorem q1587 : (Jvm.Cond.code ({ cls := "java/lang/Integer", name := "intValue", desc := "()I" } : Jvm.MethodName) prog_37_method_27_code (1 : Nat) (Option.some Jvm.ClassFile.FieldType.int)) ∈ lw_all := lw_g (lw_at lw_m7 67 rfl) rfl
theorem q1588 : (Jvm.Cond.interfaceEntry "MasterTree$Master" (229 : Nat)) ∈ lw_tbl := lw_at lw_m7 68 rfl
theorem q1589 : (Jvm.Cond.methodLink "MasterTree$Master" (229 : Nat) ({ cls := "java/util/Map$Entry", name := "getValue", desc := "()Ljava/lang/Object;" } : Jvm.MethodName)) ∈ lw_all := lw_g (lw_at lw_m7 69 rfl) rfl
theorem q1590 : (Jvm.Cond.methodLink "MasterTree$Master" (232 : Nat) ({ cls := "MasterTree$Master", name := "sort", desc := "(II)I" } : Jvm.MethodName)) ∈ lw_all := lw_g (lw_at lw_m7 70 rfl) rfl
theorem q1591 : (Jvm.Cond.privateMethod ({ cls := "MasterTree$Master", name := "sort", desc := "(II)I" } : Jvm.MethodName)) ∈ lw_tbl := lw_at lw_m7 71 rfl
theorem q1592 : (Jvm.Cond.instanceMethod ({ cls := "MasterTree$Master", name := "sort", desc := "(II)I" } : Jvm.MethodName)) ∈ lw_all := lw_g (lw_at lw_m7 72 rfl) rfl
theorem q1593 : (Jvm.Cond.code ({ cls := "MasterTree$Master", name := "sort", desc := "(II)I" } : Jvm.MethodName) prog_21_method_13_code (4 : Nat) (Option.some Jvm.ClassFile.FieldType.int)) ∈ lw_all := lw_g (lw_at lw_m7 73 rfl) rfl
theorem q1594 : (Jvm.Cond.methodLink "MasterTree$Master" (61 : Nat) ({ cls := "MasterTree$Master", name := "isLive", desc := "(I)Z" } : Jvm.MethodName)) ∈ lw_all := lw_g (lw_at lw_m7 74 rfl) rfl
theorem q1595 : (Jvm.Cond.interfaceEntry "MasterTree$Master" (214 : Nat)) ∈ lw_tbl := lw_at lw_m7 75 rfl
theorem q1596 : (Jvm.Cond.methodLink "MasterTree$Master" (214 : Nat) ({ cls := "java/util/List", name := "isEmpty", desc := "()Z" } : Jvm.MethodName)) ∈ lw_all := lw_g (lw_at lw_m7 76 rfl) rfl
theorem q1597 : (Jvm.Cond.interfaceMethod "java/util/List" "java/util/List" "isEmpty" "()Z") ∈ lw_tbl := lw_at lw_m7 77 rfl
theorem q1598 : (Jvm.Cond.declares ({ cls := "java/util/List", name := "isEmpty", desc := "()Z" } : Jvm.MethodName)) ∈ lw_tbl := lw_at lw_m7 78 rfl
theorem q1599 : (Jvm.Cond.selects "java/util/ArrayList" ({ cls := "java/util/List", name := "isEmpty", desc := "()Z" } : Jvm.MethodName) ({ cls := "java/util/ArrayList", name := "isEmpty", desc := "()Z" } : Jvm.MethodName)) ∈ lw_all := lw_g (lw_at lw_m7 79 rfl) rfl
theorem q1600 : (Jvm.Cond.unhidden "java/util/ArrayList" "isEmpty" "()Z") ∈ lw_tbl := lw_at lw_m7 80 rfl
theorem q1601 : (Jvm.Cond.instanceMethod ({ cls := "java/util/ArrayList", name := "isEmpty", desc := "()Z" } : Jvm.MethodName)) ∈ lw_all := lw_g (lw_at lw_m7 81 rfl) rfl
theorem q1602 : (Jvm.Cond.publicMethod ({ cls := "java/util/ArrayList", name := "isEmpty", desc := "()Z" } : Jvm.MethodName)) ∈ lw_tbl := lw_at lw_m7 82 rfl
theorem q1603 : (Jvm.Cond.code ({ cls := "java/util/ArrayList", name := "isEmpty", desc := "()Z" } : Jvm.MethodName) prog_59_method_9_code (1 : Nat) (Option.some Jvm.ClassFile.FieldType.boolean)) ∈ lw_all := lw_g (lw_at lw_m7 83 rfl) rfl
theorem q1604 : (Jvm.Cond.methodLink "MasterTree$Master" (215 : Nat) ({ cls := "MasterTree$Entry", name := "has", desc := "(II)Z" } : Jvm.MethodName)) ∈ lw_all := lw_g (lw_at lw_m7 84 rfl) rfl
theorem q1605 : (Jvm.Cond.instanceMethod ({ cls := "MasterTree$Entry", name := "has", desc := "(II)Z" } : Jvm.MethodName)) ∈ lw_all := lw_g (lw_at lw_m7 85 rfl) rfl
theorem q1606 : (Jvm.Cond.selects "MasterTree$Entry" ({ cls := "MasterTree$Entry", name := "has", desc := "(II)Z" } : Jvm.MethodName) ({ cls := "MasterTree$Entry", name := "has", desc := "(II)Z" } : Jvm.MethodName)) ∈ lw_all := lw_g (lw_at lw_m7 86 rfl) rfl
theorem q1607 : (Jvm.Cond.code ({ cls := "MasterTree$Entry", name := "has", desc := "(II)Z" } : Jvm.MethodName) prog_7_method_6_code (3 : Nat) (Option.some Jvm.ClassFile.FieldType.boolean)) ∈ lw_all := lw_g (lw_at lw_m7 87 rfl) rfl
theorem q1608 : (Jvm.Cond.methodLink "MasterTree$Entry" (80 : Nat) ({ cls := "MasterTree$Entry", name := "place", desc := "(II)I" } : Jvm.MethodName)) ∈ lw_all := lw_g (lw_at lw_m7 88 rfl) rfl
theorem q1609 : (Jvm.Cond.instanceMethod ({ cls := "MasterTree$Entry", name := "place", desc := "(II)I" } : Jvm.MethodName)) ∈ lw_all := lw_g (lw_at lw_m7 89 rfl) rfl
theorem q1610 : (Jvm.Cond.selects "MasterTree$Entry" ({ cls := "MasterTree$Entry", name := "place", desc := "(II)I" } : Jvm.MethodName) ({ cls := "MasterTree$Entry", name := "place", desc := "(II)I" } : Jvm.MethodName)) ∈ lw_all := lw_g (lw_at lw_m7 90 rfl) rfl
theorem q1611 : (Jvm.Cond.code ({ cls := "MasterTree$Entry", name := "place", desc := "(II)I" } : Jvm.MethodName) prog_7_method_3_code (3 : Nat) (Option.some Jvm.ClassFile.FieldType.int)) ∈ lw_all := lw_g (lw_at lw_m7 91 rfl) rfl
theorem q1612 : (Jvm.Cond.interfaceEntry "MasterTree$Entry" (46 : Nat)) ∈ lw_tbl := lw_at lw_m7 92 rfl
theorem q1613 : (Jvm.Cond.methodLink "MasterTree$Entry" (46 : Nat) ({ cls := "java/util/List", name := "get", desc := "(I)Ljava/lang/Object;" } : Jvm.MethodName)) ∈ lw_all := lw_g (lw_at lw_m7 93 rfl) rfl
theorem q1614 : (Jvm.Cond.classLink "MasterTree$Entry" (52 : Nat) "MasterTree$Attribute") ∈ lw_all := lw_g (lw_at lw_m7 94 rfl) rfl
theorem q1615 : (Jvm.Cond.methodLink "MasterTree$Entry" (54 : Nat) ({ cls := "MasterTree$Attribute", name := "key", desc := "(I)I" } : Jvm.MethodName)) ∈ lw_all := lw_g (lw_at lw_m7 95 rfl) rfl
theorem q1616 : (Jvm.Cond.instanceMethod ({ cls := "MasterTree$Attribute", name := "key", desc := "(I)I" } : Jvm.MethodName)) ∈ lw_all := lw_g (lw_at lw_m7 96 rfl) rfl
theorem q1617 : (Jvm.Cond.selects "MasterTree$Attribute" ({ cls := "MasterTree$Attribute", name := "key", desc := "(I)I" } : Jvm.MethodName) ({ cls := "MasterTree$Attribute", name := "key", desc := "(I)I" } : Jvm.MethodName)) ∈ lw_all := lw_g (lw_at lw_m7 97 rfl) rfl
theorem q1618 : (Jvm.Cond.code ({ cls := "MasterTree$Attribute", name := "key", desc := "(I)I" } : Jvm.MethodName) prog_2_method_2_code (2 : Nat) (Option.some Jvm.ClassFile.FieldType.int)) ∈ lw_all := lw_g (lw_at lw_m7 98 rfl) rfl
theorem q1619 : (Jvm.Cond.methodLink "MasterTree$Entry" (58 : Nat) ({ cls := "java/lang/Integer", name := "valueOf", desc := "(I)Ljava/lang/Integer;" } : Jvm.MethodName)) ∈ lw_all := lw_g (lw_at lw_m7 99 rfl) rfl
theorem q1620 : (Jvm.Cond.static ({ cls := "java/lang/Integer", name := "valueOf", desc := "(I)Ljava/lang/Integer;" } : Jvm.MethodName)) ∈ lw_all := lw_g (lw_at lw_m7 100 rfl) rfl
theorem q1621 : (Jvm.Cond.code ({ cls := "java/lang/Integer", name := "valueOf", desc := "(I)Ljava/lang/Integer;" } : Jvm.MethodName) prog_37_method_22_code (1 : Nat) (Option.some (Jvm.ClassFile.FieldType.object "java/lang/Integer"))) ∈ lw_all := lw_g (lw_at lw_m7 101 rfl) rfl
theorem q1622 : (Jvm.Cond.fieldLink "java/lang/Integer" (191 : Nat) "java/lang/Integer$IntegerCache" "high" "I") ∈ lw_all := lw_g (lw_at lw_m7 102 rfl) rfl
theorem q1623 : (Jvm.Cond.laysStatic "java/lang/Integer$IntegerCache" "high" "I") ∈ lw_tbl := lw_at lw_m7 103 rfl
theorem q1624 : (Jvm.Cond.fieldLink "java/lang/Integer" (195 : Nat) "java/lang/Integer$IntegerCache" "cache" "[Ljava/lang/Integer;") ∈ lw_all := lw_g (lw_at lw_m7 104 rfl) rfl
theorem q1625 : (Jvm.Cond.laysStatic "java/lang/Integer$IntegerCache" "cache" "[Ljava/lang/Integer;") ∈ lw_tbl := lw_at lw_m7 105 rfl
theorem q1626 : (Jvm.Cond.instantiable "java/lang/Integer" (1 : Nat)) ∈ lw_all := lw_g (lw_at lw_m7 106 rfl) rfl
theorem q1627 : (Jvm.Cond.methodLink "java/lang/Integer" (199 : Nat) ({ cls := "java/lang/Integer", name := "<init>", desc := "(I)V" } : Jvm.MethodName)) ∈ lw_all := lw_g (lw_at lw_m7 107 rfl) rfl
theorem q1628 : (Jvm.Cond.instanceMethod ({ cls := "java/lang/Integer", name := "<init>", desc := "(I)V" } : Jvm.MethodName)) ∈ lw_all := lw_g (lw_at lw_m7 108 rfl) rfl
theorem q1629 : (Jvm.Cond.code ({ cls := "java/lang/Integer", name := "<init>", desc := "(I)V" } : Jvm.MethodName) prog_37_method_23_code (2 : Nat) (Option.none : Option Jvm.ClassFile.FieldType)) ∈ lw_all := lw_g (lw_at lw_m7 109 rfl) rfl
theorem q1630 : (Jvm.Cond.methodLink "java/lang/Integer" (202 : Nat) ({ cls := "java/lang/Number", name := "<init>", desc := "()V" } : Jvm.MethodName)) ∈ lw_all := lw_g (lw_at lw_m7 110 rfl) rfl
theorem q1631 : (Jvm.Cond.instanceMethod ({ cls := "java/lang/Number", name := "<init>", desc := "()V" } : Jvm.MethodName)) ∈ lw_all := lw_g (lw_at lw_m7 111 rfl) rfl
theorem q1632 : (Jvm.Cond.code ({ cls := "java/lang/Number", name := "<init>", desc := "()V" } : Jvm.MethodName) prog_43_method_1_code (1 : Nat) (Option.none : Option Jvm.ClassFile.FieldType)) ∈ lw_all := lw_g (lw_at lw_m7 112 rfl) rfl
theorem q1633 : (Jvm.Cond.methodLink "java/lang/Number" (1 : Nat) ({ cls := "java/lang/Object", name := "<init>", desc := "()V" } : Jvm.MethodName)) ∈ lw_all := lw_g (lw_at lw_m7 113 rfl) rfl
theorem q1634 : (Jvm.Cond.fieldLink "java/lang/Integer" (205 : Nat) "java/lang/Integer" "value" "I") ∈ lw_all := lw_g (lw_at lw_m7 114 rfl) rfl
theorem q1635 : (Jvm.Cond.laysFinal "java/lang/Integer" "java/lang/Integer" "value" "I") ∈ lw_all := lw_g (lw_at lw_m7 115 rfl) rfl
theorem q1636 : (Jvm.Cond.soleField "java/lang/Integer" "value") ∈ lw_all := lw_g (lw_at lw_m7 116 rfl) rfl
theorem q1637 : (Jvm.Cond.superclass "java/lang/Integer" "java/lang/Number") ∈ lw_all := lw_g (lw_at lw_m7 117 rfl) rfl
theorem q1638 : (Jvm.Cond.methodLink "MasterTree$Entry" (88 : Nat) ({ cls := "java/util/TreeMap", name := "containsKey", desc := "(Ljava/lang/Object;)Z" } : Jvm.MethodName)) ∈ lw_all := lw_g (lw_at lw_m7 118 rfl) rfl
theorem q1639 : (Jvm.Cond.instanceMethod ({ cls := "java/util/TreeMap", name := "containsKey", desc := "(Ljava/lang/Object;)Z" } : Jvm.MethodName)) ∈ lw_all := lw_g (lw_at lw_m7 119 rfl) rfl
theorem q1640 : (Jvm.Cond.selects "java/util/TreeMap" ({ cls := "java/util/TreeMap", name := "containsKey", desc := "(Ljava/lang/Object;)Z" } : Jvm.MethodName) ({ cls := "java/util/TreeMap", name := "containsKey", desc := "(Ljava/lang/Object;)Z" } : Jvm.MethodName)) ∈ lw_all := lw_g (lw_at lw_m7 120 rfl) rfl
theorem q1641 : (Jvm.Cond.code ({ cls := "java/util/TreeMap", name := "containsKey", desc := "(Ljava/lang/Object;)Z" } : Jvm.MethodName) prog_79_method_6_code (2 : Nat) (Option.some Jvm.ClassFile.FieldType.boolean)) ∈ lw_all := lw_g (lw_at lw_m7 121 rfl) rfl
theorem q1642 : (Jvm.Cond.methodLink "java/util/TreeMap" (50 : Nat) ({ cls := "java/util/TreeMap", name := "getEntry", desc := "(Ljava/lang/Object;)Ljava/util/TreeMap$Entry;" } : Jvm.MethodName)) ∈ lw_all := lw_g (lw_at lw_m7 122 rfl) rfl
theorem q1643 : (Jvm.Cond.instanceMethod ({ cls := "java/util/TreeMap", name := "getEntry", desc := "(Ljava/lang/Object;)Ljava/util/TreeMap$Entry;" } : Jvm.MethodName)) ∈ lw_all := lw_g (lw_at lw_m7 123 rfl) rfl
theorem q1644 : (Jvm.Cond.selects "java/util/TreeMap" ({ cls := "java/util/TreeMap", name := "getEntry", desc := "(Ljava/lang/Object;)Ljava/util/TreeMap$Entry;" } : Jvm.MethodName) ({ cls := "java/util/TreeMap", name := "getEntry", desc := "(Ljava/lang/Object;)Ljava/util/TreeMap$Entry;" } : Jvm.MethodName)) ∈ lw_all := lw_g (lw_at lw_m7 124 rfl) rfl
theorem q1645 : (Jvm.Cond.code ({ cls := "java/util/TreeMap", name := "getEntry", desc := "(Ljava/lang/Object;)Ljava/util/TreeMap$Entry;" } : Jvm.MethodName) prog_79_method_15_code (5 : Nat) (Option.some (Jvm.ClassFile.FieldType.object "java/util/TreeMap$Entry"))) ∈ lw_all := lw_g (lw_at lw_m7 125 rfl) rfl
theorem q1646 : (Jvm.Cond.methodLink "java/util/TreeMap" (92 : Nat) ({ cls := "java/util/TreeMap", name := "getEntryUsingComparator", desc := "(Ljava/lang/Object;)Ljava/util/TreeMap$Entry;" } : Jvm.MethodName)) ∈ lw_all := lw_g (lw_at lw_m7 126 rfl) rfl
theorem q1647 : (Jvm.Cond.instanceMethod ({ cls := "java/util/TreeMap", name := "getEntryUsingComparator", desc := "(Ljava/lang/Object;)Ljava/util/TreeMap$Entry;" } : Jvm.MethodName)) ∈ lw_all := lw_g (lw_at lw_m7 127 rfl) rfl
theorem q1648 : (Jvm.Cond.selects "java/util/TreeMap" ({ cls := "java/util/TreeMap", name := "getEntryUsingComparator", desc := "(Ljava/lang/Object;)Ljava/util/TreeMap$Entry;" } : Jvm.MethodName) ({ cls := "java/util/TreeMap", name := "getEntryUsingComparator", desc := "(Ljava/lang/Object;)Ljava/util/TreeMap$Entry;" } : Jvm.MethodName)) ∈ lw_all := lw_g (lw_at lw_m7 128 rfl) rfl
theorem q1649 : (Jvm.Cond.code ({ cls := "java/util/TreeMap", name := "getEntryUsingComparator", desc := "(Ljava/lang/Object;)Ljava/util/TreeMap$Entry;" } : Jvm.MethodName) prog_79_method_16_code (6 : Nat) (Option.some (Jvm.ClassFile.FieldType.object "java/util/TreeMap$Entry"))) ∈ lw_all := lw_g (lw_at lw_m7 129 rfl) rfl
theorem q1650 : (Jvm.Cond.methodLink "java/util/TreeMap" (95 : Nat) ({ cls := "java/util/Objects", name := "requireNonNull", desc := "(Ljava/lang/Object;)Ljava/lang/Object;" } : Jvm.MethodName)) ∈ lw_all := lw_g (lw_at lw_m7 130 rfl) rfl
theorem q1651 : (Jvm.Cond.static ({ cls := "java/util/Objects", name := "requireNonNull", desc := "(Ljava/lang/Object;)Ljava/lang/Object;" } : Jvm.MethodName)) ∈ lw_all := lw_g (lw_at lw_m7 131 rfl) rfl
theorem q1652 : (Jvm.Cond.code ({ cls := "java/util/Objects", name := "requireNonNull", desc := "(Ljava/lang/Object;)Ljava/lang/Object;" } : Jvm.MethodName) prog_71_method_10_code (1 : Nat) (Option.some (Jvm.ClassFile.FieldType.object "java/lang/Object"))) ∈ lw_all := lw_g (lw_at lw_m7 132 rfl) rfl
theorem q1653 : (Jvm.Cond.methodLink "MasterTree$Master" (136 : Nat) ({ cls := "java/lang/Math", name := "max", desc := "(II)I" } : Jvm.MethodName)) ∈ lw_all := lw_g (lw_at lw_m7 133 rfl) rfl
theorem q1654 : (Jvm.Cond.methodLink "MasterTree$Master" (171 : Nat) ({ cls := "MasterTree$Master", name := "shownAt", desc := "(I)I" } : Jvm.MethodName)) ∈ lw_all := lw_g (lw_at lw_m7 134 rfl) rfl
theorem q1655 : (Jvm.Cond.instanceMethod ({ cls := "MasterTree$Master", name := "shownAt", desc := "(I)I" } : Jvm.MethodName)) ∈ lw_all := lw_g (lw_at lw_m7 135 rfl) rfl
theorem q1656 : (Jvm.Cond.selects "MasterTree$Master" ({ cls := "MasterTree$Master", name := "shownAt", desc := "(I)I" } : Jvm.MethodName) ({ cls := "MasterTree$Master", name := "shownAt", desc := "(I)I" } : Jvm.MethodName)) ∈ lw_all := lw_g (lw_at lw_m7 136 rfl) rfl
theorem q1657 : (Jvm.Cond.code ({ cls := "MasterTree$Master", name := "shownAt", desc := "(I)I" } : Jvm.MethodName) prog_21_method_6_code (3 : Nat) (Option.some Jvm.ClassFile.FieldType.int)) ∈ lw_all := lw_g (lw_at lw_m7 137 rfl) rfl
theorem q1658 : (Jvm.Cond.stringRef "MasterTree" (213 : Nat) "the user may not write") ∈ lw_tbl := lw_at lw_m7 138 rfl
theorem q1659 : (Jvm.Cond.methodLink "MasterTree" (253 : Nat) ({ cls := "MasterTree$Master", name := "isShown", desc := "(III)Z" } : Jvm.MethodName)) ∈ lw_all := lw_g (lw_at lw_m7 139 rfl) rfl
theorem q1660 : (Jvm.Cond.instanceMethod ({ cls := "MasterTree$Master", name := "isShown", desc := "(III)Z" } : Jvm.MethodName)) ∈ lw_all := lw_g (lw_at lw_m7 140 rfl) rfl
theorem q1661 : (Jvm.Cond.selects "MasterTree$Master" ({ cls := "MasterTree$Master", name := "isShown", desc := "(III)Z" } : Jvm.MethodName) ({ cls := "MasterTree$Master", name := "isShown", desc := "(III)Z" } : Jvm.MethodName)) ∈ lw_all := lw_g (lw_at lw_m7 141 rfl) rfl
theorem q1662 : (Jvm.Cond.code ({ cls := "MasterTree$Master", name := "isShown", desc := "(III)Z" } : Jvm.MethodName) prog_21_method_10_code (6 : Nat) (Option.some Jvm.ClassFile.FieldType.boolean)) ∈ lw_all := lw_g (lw_at lw_m7 142 rfl) rfl
theorem q1663 : (Jvm.Cond.methodLink "MasterTree$Master" (175 : Nat) ({ cls := "MasterTree$Master", name := "isAt", desc := "(II)Z" } : Jvm.MethodName)) ∈ lw_all := lw_g (lw_at lw_m7 143 rfl) rfl
theorem q1664 : (Jvm.Cond.instanceMethod ({ cls := "MasterTree$Master", name := "isAt", desc := "(II)Z" } : Jvm.MethodName)) ∈ lw_all := lw_g (lw_at lw_m7 144 rfl) rfl
theorem q1665 : (Jvm.Cond.selects "MasterTree$Master" ({ cls := "MasterTree$Master", name := "isAt", desc := "(II)Z" } : Jvm.MethodName) ({ cls := "MasterTree$Master", name := "isAt", desc := "(II)Z" } : Jvm.MethodName)) ∈ lw_all := lw_g (lw_at lw_m7 145 rfl) rfl
theorem q1666 : (Jvm.Cond.code ({ cls := "MasterTree$Master", name := "isAt", desc := "(II)Z" } : Jvm.MethodName) prog_21_method_7_code (3 : Nat) (Option.some Jvm.ClassFile.FieldType.boolean)) ∈ lw_all := lw_g (lw_at lw_m7 146 rfl) rfl
theorem q1667 : (Jvm.Cond.methodLink "MasterTree$Master" (189 : Nat) ({ cls := "MasterTree$Master", name := "shownName", desc := "(I)I" } : Jvm.MethodName)) ∈ lw_all := lw_g (lw_at lw_m7 147 rfl) rfl
theorem q1668 : (Jvm.Cond.instanceMethod ({ cls := "MasterTree$Master", name := "shownName", desc := "(I)I" } : Jvm.MethodName)) ∈ lw_all := lw_g (lw_at lw_m7 148 rfl) rfl
theorem q1669 : (Jvm.Cond.selects "MasterTree$Master" ({ cls := "MasterTree$Master", name := "shownName", desc := "(I)I" } : Jvm.MethodName) ({ cls := "MasterTree$Master", name := "shownName", desc := "(I)I" } : Jvm.MethodName)) ∈ lw_all := lw_g (lw_at lw_m7 149 rfl) rfl
theorem q1670 : (Jvm.Cond.code ({ cls := "MasterTree$Master", name := "shownName", desc := "(I)I" } : Jvm.MethodName) prog_21_method_9_code (2 : Nat) (Option.some Jvm.ClassFile.FieldType.int)) ∈ lw_all := lw_g (lw_at lw_m7 150 rfl) rfl
theorem q1671 : (Jvm.Cond.methodLink "MasterTree$Master" (186 : Nat) ({ cls := "MasterTree$Master", name := "clashes", desc := "(I)Z" } : Jvm.MethodName)) ∈ lw_all := lw_g (lw_at lw_m7 151 rfl) rfl
theorem q1672 : (Jvm.Cond.instanceMethod ({ cls := "MasterTree$Master", name := "clashes", desc := "(I)Z" } : Jvm.MethodName)) ∈ lw_all := lw_g (lw_at lw_m7 152 rfl) rfl
theorem q1673 : (Jvm.Cond.selects "MasterTree$Master" ({ cls := "MasterTree$Master", name := "clashes", desc := "(I)Z" } : Jvm.MethodName) ({ cls := "MasterTree$Master", name := "clashes", desc := "(I)Z" } : Jvm.MethodName)) ∈ lw_all := lw_g (lw_at lw_m7 153 rfl) rfl
theorem q1674 : (Jvm.Cond.code ({ cls := "MasterTree$Master", name := "clashes", desc := "(I)Z" } : Jvm.MethodName) prog_21_method_8_code (5 : Nat) (Option.some Jvm.ClassFile.FieldType.boolean)) ∈ lw_all := lw_g (lw_at lw_m7 154 rfl) rfl
theorem q1675 : (Jvm.Cond.methodLink "MasterTree$Master" (182 : Nat) ({ cls := "MasterTree$Entry", name := "isAhead", desc := "(LMasterTree$Entry;)Z" } : Jvm.MethodName)) ∈ lw_all := lw_g (lw_at lw_m7 155 rfl) rfl
theorem q1676 : (Jvm.Cond.instanceMethod ({ cls := "MasterTree$Entry", name := "isAhead", desc := "(LMasterTree$Entry;)Z" } : Jvm.MethodName)) ∈ lw_all := lw_g (lw_at lw_m7 156 rfl) rfl
theorem q1677 : (Jvm.Cond.selects "MasterTree$Entry" ({ cls := "MasterTree$Entry", name := "isAhead", desc := "(LMasterTree$Entry;)Z" } : Jvm.MethodName) ({ cls := "MasterTree$Entry", name := "isAhead", desc := "(LMasterTree$Entry;)Z" } : Jvm.MethodName)) ∈ lw_all := lw_g (lw_at lw_m7 157 rfl) rfl
theorem q1678 : (Jvm.Cond.code ({ cls := "MasterTree$Entry", name := "isAhead", desc := "(LMasterTree$Entry;)Z" } : Jvm.MethodName) prog_7_method_9_code (2 : Nat) (Option.some Jvm.ClassFile.FieldType.boolean)) ∈ lw_all := lw_g (lw_at lw_m7 158 rfl) rfl
theorem q1679 : (Jvm.Cond.methodLink "MasterTree$Entry" (129 : Nat) ({ cls := "MasterTree$Change", name := "compareTo", desc := "(LMasterTree$Change;)I" } : Jvm.MethodName)) ∈ lw_all := lw_g (lw_at lw_m7 159 rfl) rfl
theorem q1680 : (Jvm.Cond.methodLink "MasterTree" (256 : Nat) ({ cls := "MasterTree", name := "fits", desc := "(LMasterTree$Klass;)Z" } : Jvm.MethodName)) ∈ lw_all := lw_g (lw_at lw_m7 160 rfl) rfl
theorem q1681 : (Jvm.Cond.privateMethod ({ cls := "MasterTree", name := "fits", desc := "(LMasterTree$Klass;)Z" } : Jvm.MethodName)) ∈ lw_tbl := lw_at lw_m7 161 rfl
theorem q1682 : (Jvm.Cond.instanceMethod ({ cls := "MasterTree", name := "fits", desc := "(LMasterTree$Klass;)Z" } : Jvm.MethodName)) ∈ lw_all := lw_g (lw_at lw_m7 162 rfl) rfl
theorem q1683 : (Jvm.Cond.code ({ cls := "MasterTree", name := "fits", desc := "(LMasterTree$Klass;)Z" } : Jvm.MethodName) prog_1_method_22_code (8 : Nat) (Option.some Jvm.ClassFile.FieldType.boolean)) ∈ lw_all := lw_g (lw_at lw_m7 163 rfl) rfl
theorem q1684 : (Jvm.Cond.classLink "MasterTree" (233 : Nat) "[I") ∈ lw_all := lw_g (lw_at lw_m7 164 rfl) rfl
theorem q1685 : (Jvm.Cond.methodLink "MasterTree" (242 : Nat) ({ cls := "MasterTree$Attribute", name := "key", desc := "(I)I" } : Jvm.MethodName)) ∈ lw_all := lw_g (lw_at lw_m7 165 rfl) rfl
theorem q1686 : (Jvm.Cond.stringRef "MasterTree" (260 : Nat) "the entry cannot be added") ∈ lw_tbl := lw_at lw_m7 166 rfl
theorem q1687 : (Jvm.Cond.interfaceEntry "MasterTree" (3 : Nat)) ∈ lw_tbl := lw_at lw_m7 167 rfl
theorem q1688 : (Jvm.Cond.methodLink "MasterTree" (3 : Nat) ({ cls := "java/util/List", name := "iterator", desc := "()Ljava/util/Iterator;" } : Jvm.MethodName)) ∈ lw_all := lw_g (lw_at lw_m7 168 rfl) rfl
theorem q1689 : (Jvm.Cond.interfaceMethod "java/util/List" "java/util/List" "iterator" "()Ljava/util/Iterator;") ∈ lw_tbl := lw_at lw_m7 169 rfl
theorem q1690 : (Jvm.Cond.declares ({ cls := "java/util/List", name := "iterator", desc := "()Ljava/util/Iterator;" } : Jvm.MethodName)) ∈ lw_tbl := lw_at lw_m7 170 rfl
theorem q1691 : (Jvm.Cond.selects "java/util/ArrayList" ({ cls := "java/util/List", name := "iterator", desc := "()Ljava/util/Iterator;" } : Jvm.MethodName) ({ cls := "java/util/ArrayList", name := "iterator", desc := "()Ljava/util/Iterator;" } : Jvm.MethodName)) ∈ lw_all := lw_g (lw_at lw_m7 171 rfl) rfl
theorem q1692 : (Jvm.Cond.unhidden "java/util/ArrayList" "iterator" "()Ljava/util/Iterator;") ∈ lw_tbl := lw_at lw_m7 172 rfl
theorem q1693 : (Jvm.Cond.instanceMethod ({ cls := "java/util/ArrayList", name := "iterator", desc := "()Ljava/util/Iterator;" } : Jvm.MethodName)) ∈ lw_all := lw_g (lw_at lw_m7 173 rfl) rfl
theorem q1694 : (Jvm.Cond.publicMethod ({ cls := "java/util/ArrayList", name := "iterator", desc := "()Ljava/util/Iterator;" } : Jvm.MethodName)) ∈ lw_tbl := lw_at lw_m7 174 rfl
theorem q1695 : (Jvm.Cond.code ({ cls := "java/util/ArrayList", name := "iterator", desc := "()Ljava/util/Iterator;" } : Jvm.MethodName) prog_59_method_55_code (1 : Nat) (Option.some (Jvm.ClassFile.FieldType.object "java/util/Iterator"))) ∈ lw_all := lw_g (lw_at lw_m7 175 rfl) rfl
theorem q1696 : (Jvm.Cond.classLink "java/util/ArrayList" (267 : Nat) "java/util/ArrayList$Itr") ∈ lw_all := lw_g (lw_at lw_m7 176 rfl) rfl
theorem q1697 : (Jvm.Cond.instantiable "java/util/ArrayList$Itr" (4 : Nat)) ∈ lw_all := lw_g (lw_at lw_m7 177 rfl) rfl
theorem q1698 : (Jvm.Cond.methodLink "java/util/ArrayList" (269 : Nat) ({ cls := "java/util/ArrayList$Itr", name := "<init>", desc := "(Ljava/util/ArrayList;)V" } : Jvm.MethodName)) ∈ lw_all := lw_g (lw_at lw_m7 178 rfl) rfl
theorem q1699 : (Jvm.Cond.instanceMethod ({ cls := "java/util/ArrayList$Itr", name := "<init>", desc := "(Ljava/util/ArrayList;)V" } : Jvm.MethodName)) ∈ lw_all := lw_g (lw_at lw_m7 179 rfl) rfl
theorem q1700 : (Jvm.Cond.code ({ cls := "java/util/ArrayList$Itr", name := "<init>", desc := "(Ljava/util/ArrayList;)V" } : Jvm.MethodName) prog_60_method_1_code (2 : Nat) (Option.none : Option Jvm.ClassFile.FieldType)) ∈ lw_all := lw_g (lw_at lw_m7 180 rfl) rfl
theorem q1701 : (Jvm.Cond.methodLink "java/util/ArrayList$Itr" (7 : Nat) ({ cls := "java/lang/Object", name := "<init>", desc := "()V" } : Jvm.MethodName)) ∈ lw_all := lw_g (lw_at lw_m7 181 rfl) rfl
theorem q1702 : (Jvm.Cond.fieldLink "java/util/ArrayList$Itr" (25 : Nat) "java/util/ArrayList$Itr" "cursor" "I") ∈ lw_all := lw_g (lw_at lw_m7 182 rfl) rfl
theorem q1703 : (Jvm.Cond.fieldLink "java/util/ArrayList$Itr" (13 : Nat) "java/util/ArrayList$Itr" "lastRet" "I") ∈ lw_all := lw_g (lw_at lw_m7 183 rfl) rfl
theorem q1704 : (Jvm.Cond.fieldLink "java/util/ArrayList$Itr" (22 : Nat) "java/util/ArrayList$Itr" "expectedModCount" "I") ∈ lw_all := lw_g (lw_at lw_m7 184 rfl) rfl
theorem q1705 : (Jvm.Cond.fieldLink "java/util/ArrayList$Itr" (1 : Nat) "java/util/ArrayList$Itr" "this$0" "Ljava/util/ArrayList;") ∈ lw_all := lw_g (lw_at lw_m7 185 rfl) rfl
theorem q1706 : (Jvm.Cond.lays "java/util/ArrayList$Itr" "java/util/ArrayList$Itr" "cursor" "I") ∈ lw_all := lw_g (lw_at lw_m7 186 rfl) rfl
theorem q1707 : (Jvm.Cond.soleField "java/util/ArrayList$Itr" "cursor") ∈ lw_all := lw_g (lw_at lw_m7 187 rfl) rfl
theorem q1708 : (Jvm.Cond.lays "java/util/ArrayList$Itr" "java/util/ArrayList$Itr" "lastRet" "I") ∈ lw_all := lw_g (lw_at lw_m7 188 rfl) rfl
theorem q1709 : (Jvm.Cond.soleField "java/util/ArrayList$Itr" "lastRet") ∈ lw_all := lw_g (lw_at lw_m7 189 rfl) rfl
theorem q1710 : (Jvm.Cond.lays "java/util/ArrayList$Itr" "java/util/ArrayList$Itr" "expectedModCount" "I") ∈ lw_all := lw_g (lw_at lw_m7 190 rfl) rfl
theorem q1711 : (Jvm.Cond.soleField "java/util/ArrayList$Itr" "expectedModCount") ∈ lw_all := lw_g (lw_at lw_m7 191 rfl) rfl
theorem q1712 : (Jvm.Cond.laysFinal "java/util/ArrayList$Itr" "java/util/ArrayList$Itr" "this$0" "Ljava/util/ArrayList;") ∈ lw_all := lw_g (lw_at lw_m7 192 rfl) rfl
theorem q1713 : (Jvm.Cond.soleField "java/util/ArrayList$Itr" "this$0") ∈ lw_all := lw_g (lw_at lw_m7 193 rfl) rfl
theorem q1714 : (Jvm.Cond.superclass "java/util/ArrayList$Itr" "java/lang/Object") ∈ lw_all := lw_g (lw_at lw_m7 194 rfl) rfl
theorem q1715 : (Jvm.Cond.interfaceEntry "MasterTree" (9 : Nat)) ∈ lw_tbl := lw_at lw_m7 195 rfl
theorem q1716 : (Jvm.Cond.methodLink "MasterTree" (9 : Nat) ({ cls := "java/util/Iterator", name := "hasNext", desc := "()Z" } : Jvm.MethodName)) ∈ lw_all := lw_g (lw_at lw_m7 196 rfl) rfl
theorem q1717 : (Jvm.Cond.interfaceEntry "MasterTree" (15 : Nat)) ∈ lw_tbl := lw_at lw_m7 197 rfl
theorem q1718 : (Jvm.Cond.methodLink "MasterTree" (15 : Nat) ({ cls := "java/util/Iterator", name := "next", desc := "()Ljava/lang/Object;" } : Jvm.MethodName)) ∈ lw_all := lw_g (lw_at lw_m7 198 rfl) rfl
theorem q1719 : (Jvm.Cond.fieldLink "MasterTree" (25 : Nat) "MasterTree$Kind" "ADD" "LMasterTree$Kind;") ∈ lw_all := lw_g (lw_at lw_m7 199 rfl) rfl
theorem q1720 : (Jvm.Cond.laysStatic "MasterTree$Kind" "ADD" "LMasterTree$Kind;") ∈ lw_tbl := lw_at lw_m7 200 rfl
theorem q1721 : (Jvm.Cond.methodLink "MasterTree" (229 : Nat) ({ cls := "MasterTree", name := "makes", desc := "(LMasterTree$Master;LMasterTree$Kind;IIIILjava/util/List;)V" } : Jvm.MethodName)) ∈ lw_all := lw_g (lw_at lw_m7 201 rfl) rfl
theorem q1722 : (Jvm.Cond.privateMethod ({ cls := "MasterTree", name := "makes", desc := "(LMasterTree$Master;LMasterTree$Kind;IIIILjava/util/List;)V" } : Jvm.MethodName)) ∈ lw_tbl := lw_at lw_m7 202 rfl
theorem q1723 : (Jvm.Cond.instanceMethod ({ cls := "MasterTree", name := "makes", desc := "(LMasterTree$Master;LMasterTree$Kind;IIIILjava/util/List;)V" } : Jvm.MethodName)) ∈ lw_all := lw_g (lw_at lw_m7 203 rfl) rfl
theorem q1724 : (Jvm.Cond.code ({ cls := "MasterTree", name := "makes", desc := "(LMasterTree$Master;LMasterTree$Kind;IIIILjava/util/List;)V" } : Jvm.MethodName) prog_1_method_20_code (8 : Nat) (Option.none : Option Jvm.ClassFile.FieldType)) ∈ lw_all := lw_g (lw_at lw_m7 204 rfl) rfl
theorem q1725 : (Jvm.Cond.classLink "MasterTree" (19 : Nat) "MasterTree$Change") ∈ lw_all := lw_g (lw_at lw_m7 205 rfl) rfl
theorem q1726 : (Jvm.Cond.instantiable "MasterTree$Change" (9 : Nat)) ∈ lw_all := lw_g (lw_at lw_m7 206 rfl) rfl
theorem q1727 : (Jvm.Cond.methodLink "MasterTree" (222 : Nat) ({ cls := "MasterTree$Change", name := "<init>", desc := "(IIILMasterTree$Kind;IIIILjava/util/List;)V" } : Jvm.MethodName)) ∈ lw_all := lw_g (lw_at lw_m7 207 rfl) rfl
theorem q1728 : (Jvm.Cond.instanceMethod ({ cls := "MasterTree$Change", name := "<init>", desc := "(IIILMasterTree$Kind;IIIILjava/util/List;)V" } : Jvm.MethodName)) ∈ lw_all := lw_g (lw_at lw_m7 208 rfl) rfl
theorem q1729 : (Jvm.Cond.code ({ cls := "MasterTree$Change", name := "<init>", desc := "(IIILMasterTree$Kind;IIIILjava/util/List;)V" } : Jvm.MethodName) prog_5_method_1_code (10 : Nat) (Option.none : Option Jvm.ClassFile.FieldType)) ∈ lw_all := lw_g (lw_at lw_m7 209 rfl) rfl
theorem q1730 : (Jvm.Cond.methodLink "MasterTree$Change" (1 : Nat) ({ cls := "java/lang/Object", name := "<init>", desc := "()V" } : Jvm.MethodName)) ∈ lw_all := lw_g (lw_at lw_m7 210 rfl) rfl
theorem q1731 : (Jvm.Cond.fieldLink "MasterTree$Change" (7 : Nat) "MasterTree$Change" "stamp" "I") ∈ lw_all := lw_g (lw_at lw_m7 211 rfl) rfl
theorem q1732 : (Jvm.Cond.fieldLinkNest "MasterTree$Master" (135 : Nat) "MasterTree$Change" "stamp" "I" "MasterTree") ∈ lw_tbl := lw_at lw_m7 212 rfl
theorem q1733 : (Jvm.Cond.fieldLink "MasterTree$Change" (13 : Nat) "MasterTree$Change" "master" "I") ∈ lw_all := lw_g (lw_at lw_m7 213 rfl) rfl
theorem q1734 : (Jvm.Cond.fieldLinkNest "MasterTree$Master" (129 : Nat) "MasterTree$Change" "master" "I" "MasterTree") ∈ lw_tbl := lw_at lw_m7 214 rfl
theorem q1735 : (Jvm.Cond.fieldLinkNest "MasterTree" (382 : Nat) "MasterTree$Change" "master" "I" "MasterTree") ∈ lw_tbl := lw_at lw_m7 215 rfl
theorem q1736 : (Jvm.Cond.fieldLink "MasterTree$Change" (16 : Nat) "MasterTree$Change" "number" "I") ∈ lw_all := lw_g (lw_at lw_m7 216 rfl) rfl
theorem q1737 : (Jvm.Cond.fieldLinkNest "MasterTree$Master" (246 : Nat) "MasterTree$Change" "number" "I" "MasterTree") ∈ lw_tbl := lw_at lw_m7 217 rfl
theorem q1738 : (Jvm.Cond.fieldLinkNest "MasterTree" (381 : Nat) "MasterTree$Change" "number" "I" "MasterTree") ∈ lw_tbl := lw_at lw_m7 218 rfl
theorem q1739 : (Jvm.Cond.fieldLink "MasterTree$Change" (19 : Nat) "MasterTree$Change" "kind" "LMasterTree$Kind;") ∈ lw_all := lw_g (lw_at lw_m7 219 rfl) rfl
theorem q1740 : (Jvm.Cond.fieldLinkNest "MasterTree" (21 : Nat) "MasterTree$Change" "kind" "LMasterTree$Kind;" "MasterTree") ∈ lw_tbl := lw_at lw_m7 220 rfl
theorem q1741 : (Jvm.Cond.fieldLinkNest "MasterTree$Master" (155 : Nat) "MasterTree$Change" "kind" "LMasterTree$Kind;" "MasterTree") ∈ lw_tbl := lw_at lw_m7 221 rfl
theorem q1742 : (Jvm.Cond.fieldLinkNest "MasterTree$Entry" (112 : Nat) "MasterTree$Change" "kind" "LMasterTree$Kind;" "MasterTree") ∈ lw_tbl := lw_at lw_m7 222 rfl
theorem q1743 : (Jvm.Cond.fieldLink "MasterTree$Change" (23 : Nat) "MasterTree$Change" "entry" "I") ∈ lw_all := lw_g (lw_at lw_m7 223 rfl) rfl
theorem q1744 : (Jvm.Cond.fieldLinkNest "MasterTree" (33 : Nat) "MasterTree$Change" "entry" "I" "MasterTree") ∈ lw_tbl := lw_at lw_m7 224 rfl
theorem q1745 : (Jvm.Cond.fieldLinkNest "MasterTree$Master" (142 : Nat) "MasterTree$Change" "entry" "I" "MasterTree") ∈ lw_tbl := lw_at lw_m7 225 rfl
theorem q1746 : (Jvm.Cond.fieldLink "MasterTree$Change" (26 : Nat) "MasterTree$Change" "first" "I") ∈ lw_all := lw_g (lw_at lw_m7 226 rfl) rfl
theorem q1747 : (Jvm.Cond.fieldLinkNest "MasterTree$Kind$2" (7 : Nat) "MasterTree$Change" "first" "I" "MasterTree") ∈ lw_tbl := lw_at lw_m7 227 rfl
theorem q1748 : (Jvm.Cond.fieldLinkNest "MasterTree$Kind$4" (7 : Nat) "MasterTree$Change" "first" "I" "MasterTree") ∈ lw_tbl := lw_at lw_m7 228 rfl
theorem q1749 : (Jvm.Cond.fieldLinkNest "MasterTree$Kind$5" (7 : Nat) "MasterTree$Change" "first" "I" "MasterTree") ∈ lw_tbl := lw_at lw_m7 229 rfl
theorem q1750 : (Jvm.Cond.fieldLinkNest "MasterTree$Kind$6" (7 : Nat) "MasterTree$Change" "first" "I" "MasterTree") ∈ lw_tbl := lw_at lw_m7 230 rfl
theorem q1751 : (Jvm.Cond.fieldLinkNest "MasterTree$Kind$7" (13 : Nat) "MasterTree$Change" "first" "I" "MasterTree") ∈ lw_tbl := lw_at lw_m7 231 rfl
theorem q1752 : (Jvm.Cond.fieldLinkNest "MasterTree$Kind$3" (13 : Nat) "MasterTree$Change" "first" "I" "MasterTree") ∈ lw_tbl := lw_at lw_m7 232 rfl
theorem q1753 : (Jvm.Cond.fieldLinkNest "MasterTree" (37 : Nat) "MasterTree$Change" "first" "I" "MasterTree") ∈ lw_tbl := lw_at lw_m7 233 rfl
theorem q1754 : (Jvm.Cond.fieldLink "MasterTree$Change" (29 : Nat) "MasterTree$Change" "second" "I") ∈ lw_all := lw_g (lw_at lw_m7 234 rfl) rfl
theorem q1755 : (Jvm.Cond.fieldLinkNest "MasterTree$Kind$2" (13 : Nat) "MasterTree$Change" "second" "I" "MasterTree") ∈ lw_tbl := lw_at lw_m7 235 rfl
theorem q1756 : (Jvm.Cond.fieldLinkNest "MasterTree$Kind$1" (13 : Nat) "MasterTree$Change" "second" "I" "MasterTree") ∈ lw_tbl := lw_at lw_m7 236 rfl
theorem q1757 : (Jvm.Cond.fieldLinkNest "MasterTree$Kind$3" (19 : Nat) "MasterTree$Change" "second" "I" "MasterTree") ∈ lw_tbl := lw_at lw_m7 237 rfl
theorem q1758 : (Jvm.Cond.fieldLinkNest "MasterTree$Kind$7" (25 : Nat) "MasterTree$Change" "second" "I" "MasterTree") ∈ lw_tbl := lw_at lw_m7 238 rfl
theorem q1759 : (Jvm.Cond.fieldLinkNest "MasterTree$Kind$4" (25 : Nat) "MasterTree$Change" "second" "I" "MasterTree") ∈ lw_tbl := lw_at lw_m7 239 rfl
theorem q1760 : (Jvm.Cond.fieldLink "MasterTree$Change" (32 : Nat) "MasterTree$Change" "klass" "I") ∈ lw_all := lw_g (lw_at lw_m8 0 rfl) rfl
theorem q1761 : (Jvm.Cond.fieldLinkNest "MasterTree$ByClass" (45 : Nat) "MasterTree$Change" "klass" "I" "MasterTree") ∈ lw_tbl := lw_at lw_m8 1 rfl
theorem q1762 : (Jvm.Cond.fieldLinkNest "MasterTree$Master" (120 : Nat) "MasterTree$Change" "klass" "I" "MasterTree") ∈ lw_tbl := lw_at lw_m8 2 rfl
theorem q1763 : (Jvm.Cond.fieldLinkNest "MasterTree" (268 : Nat) "MasterTree$Change" "klass" "I" "MasterTree") ∈ lw_tbl := lw_at lw_m8 3 rfl
theorem q1764 : (Jvm.Cond.fieldLink "MasterTree$Change" (35 : Nat) "MasterTree$Change" "values" "Ljava/util/List;") ∈ lw_all := lw_g (lw_at lw_m8 4 rfl) rfl
theorem q1765 : (Jvm.Cond.fieldLinkNest "MasterTree$Kind$1" (22 : Nat) "MasterTree$Change" "values" "Ljava/util/List;" "MasterTree") ∈ lw_tbl := lw_at lw_m8 5 rfl
theorem q1766 : (Jvm.Cond.laysFinal "MasterTree$Change" "MasterTree$Change" "stamp" "I") ∈ lw_all := lw_g (lw_at lw_m8 6 rfl) rfl
theorem q1767 : (Jvm.Cond.soleField "MasterTree$Change" "stamp") ∈ lw_all := lw_g (lw_at lw_m8 7 rfl) rfl
theorem q1768 : (Jvm.Cond.laysFinal "MasterTree$Change" "MasterTree$Change" "master" "I") ∈ lw_all := lw_g (lw_at lw_m8 8 rfl) rfl
theorem q1769 : (Jvm.Cond.soleField "MasterTree$Change" "master") ∈ lw_all := lw_g (lw_at lw_m8 9 rfl) rfl
theorem q1770 : (Jvm.Cond.laysFinal "MasterTree$Change" "MasterTree$Change" "number" "I") ∈ lw_all := lw_g (lw_at lw_m8 10 rfl) rfl
theorem q1771 : (Jvm.Cond.soleField "MasterTree$Change" "number") ∈ lw_all := lw_g (lw_at lw_m8 11 rfl) rfl
theorem q1772 : (Jvm.Cond.laysFinal "MasterTree$Change" "MasterTree$Change" "kind" "LMasterTree$Kind;") ∈ lw_all := lw_g (lw_at lw_m8 12 rfl) rfl
theorem q1773 : (Jvm.Cond.soleField "MasterTree$Change" "kind") ∈ lw_all := lw_g (lw_at lw_m8 13 rfl) rfl
theorem q1774 : (Jvm.Cond.laysFinal "MasterTree$Change" "MasterTree$Change" "entry" "I") ∈ lw_all := lw_g (lw_at lw_m8 14 rfl) rfl
theorem q1775 : (Jvm.Cond.soleField "MasterTree$Change" "entry") ∈ lw_all := lw_g (lw_at lw_m8 15 rfl) rfl
theorem q1776 : (Jvm.Cond.laysFinal "MasterTree$Change" "MasterTree$Change" "first" "I") ∈ lw_all := lw_g (lw_at lw_m8 16 rfl) rfl
theorem q1777 : (Jvm.Cond.soleField "MasterTree$Change" "first") ∈ lw_all := lw_g (lw_at lw_m8 17 rfl) rfl
theorem q1778 : (Jvm.Cond.laysFinal "MasterTree$Change" "MasterTree$Change" "second" "I") ∈ lw_all := lw_g (lw_at lw_m8 18 rfl) rfl
theorem q1779 : (Jvm.Cond.soleField "MasterTree$Change" "second") ∈ lw_all := lw_g (lw_at lw_m8 19 rfl) rfl
theorem q1780 : (Jvm.Cond.laysFinal "MasterTree$Change" "MasterTree$Change" "klass" "I") ∈ lw_all := lw_g (lw_at lw_m8 20 rfl) rfl
theorem q1781 : (Jvm.Cond.soleField "MasterTree$Change" "klass") ∈ lw_all := lw_g (lw_at lw_m8 21 rfl) rfl
theorem q1782 : (Jvm.Cond.laysFinal "MasterTree$Change" "MasterTree$Change" "values" "Ljava/util/List;") ∈ lw_all := lw_g (lw_at lw_m8 22 rfl) rfl
theorem q1783 : (Jvm.Cond.soleField "MasterTree$Change" "values") ∈ lw_all := lw_g (lw_at lw_m8 23 rfl) rfl
theorem q1784 : (Jvm.Cond.superclass "MasterTree$Change" "java/lang/Object") ∈ lw_all := lw_g (lw_at lw_m8 24 rfl) rfl
theorem q1785 : (Jvm.Cond.methodLink "MasterTree" (225 : Nat) ({ cls := "MasterTree$Master", name := "takes", desc := "(LMasterTree$Change;)V" } : Jvm.MethodName)) ∈ lw_all := lw_g (lw_at lw_m8 25 rfl) rfl
theorem q1786 : (Jvm.Cond.instanceMethod ({ cls := "MasterTree$Master", name := "takes", desc := "(LMasterTree$Change;)V" } : Jvm.MethodName)) ∈ lw_all := lw_g (lw_at lw_m8 26 rfl) rfl
theorem q1787 : (Jvm.Cond.selects "MasterTree$Master" ({ cls := "MasterTree$Master", name := "takes", desc := "(LMasterTree$Change;)V" } : Jvm.MethodName) ({ cls := "MasterTree$Master", name := "takes", desc := "(LMasterTree$Change;)V" } : Jvm.MethodName)) ∈ lw_all := lw_g (lw_at lw_m8 27 rfl) rfl
theorem q1788 : (Jvm.Cond.code ({ cls := "MasterTree$Master", name := "takes", desc := "(LMasterTree$Change;)V" } : Jvm.MethodName) prog_21_method_5_code (3 : Nat) (Option.none : Option Jvm.ClassFile.FieldType)) ∈ lw_all := lw_g (lw_at lw_m8 28 rfl) rfl
theorem q1789 : (Jvm.Cond.methodLink "MasterTree$Master" (125 : Nat) ({ cls := "MasterTree$Change", name := "comesInto", desc := "(Ljava/util/List;)V" } : Jvm.MethodName)) ∈ lw_all := lw_g (lw_at lw_m8 29 rfl) rfl
theorem q1790 : (Jvm.Cond.instanceMethod ({ cls := "MasterTree$Change", name := "comesInto", desc := "(Ljava/util/List;)V" } : Jvm.MethodName)) ∈ lw_all := lw_g (lw_at lw_m8 30 rfl) rfl
theorem q1791 : (Jvm.Cond.selects "MasterTree$Change" ({ cls := "MasterTree$Change", name := "comesInto", desc := "(Ljava/util/List;)V" } : Jvm.MethodName) ({ cls := "MasterTree$Change", name := "comesInto", desc := "(Ljava/util/List;)V" } : Jvm.MethodName)) ∈ lw_all := lw_g (lw_at lw_m8 31 rfl) rfl
theorem q1792 : (Jvm.Cond.code ({ cls := "MasterTree$Change", name := "comesInto", desc := "(Ljava/util/List;)V" } : Jvm.MethodName) prog_5_method_3_code (3 : Nat) (Option.none : Option Jvm.ClassFile.FieldType)) ∈ lw_all := lw_g (lw_at lw_m8 32 rfl) rfl
theorem q1793 : (Jvm.Cond.interfaceEntry "MasterTree$Change" (45 : Nat)) ∈ lw_tbl := lw_at lw_m8 33 rfl
theorem q1794 : (Jvm.Cond.methodLink "MasterTree$Change" (45 : Nat) ({ cls := "java/util/List", name := "size", desc := "()I" } : Jvm.MethodName)) ∈ lw_all := lw_g (lw_at lw_m8 34 rfl) rfl
theorem q1795 : (Jvm.Cond.interfaceEntry "MasterTree$Change" (51 : Nat)) ∈ lw_tbl := lw_at lw_m8 35 rfl
theorem q1796 : (Jvm.Cond.methodLink "MasterTree$Change" (51 : Nat) ({ cls := "java/util/List", name := "get", desc := "(I)Ljava/lang/Object;" } : Jvm.MethodName)) ∈ lw_all := lw_g (lw_at lw_m8 36 rfl) rfl
theorem q1797 : (Jvm.Cond.interfaceEntry "MasterTree$Change" (59 : Nat)) ∈ lw_tbl := lw_at lw_m8 37 rfl
theorem q1798 : (Jvm.Cond.methodLink "MasterTree$Change" (59 : Nat) ({ cls := "java/util/List", name := "add", desc := "(ILjava/lang/Object;)V" } : Jvm.MethodName)) ∈ lw_all := lw_g (lw_at lw_m8 38 rfl) rfl
theorem q1799 : (Jvm.Cond.interfaceMethod "java/util/List" "java/util/List" "add" "(ILjava/lang/Object;)V") ∈ lw_tbl := lw_at lw_m8 39 rfl
theorem q1800 : (Jvm.Cond.declares ({ cls := "java/util/List", name := "add", desc := "(ILjava/lang/Object;)V" } : Jvm.MethodName)) ∈ lw_tbl := lw_at lw_m8 40 rfl
theorem q1801 : (Jvm.Cond.selects "java/util/ArrayList" ({ cls := "java/util/List", name := "add", desc := "(ILjava/lang/Object;)V" } : Jvm.MethodName) ({ cls := "java/util/ArrayList", name := "add", desc := "(ILjava/lang/Object;)V" } : Jvm.MethodName)) ∈ lw_all := lw_g (lw_at lw_m8 41 rfl) rfl
theorem q1802 : (Jvm.Cond.unhidden "java/util/ArrayList" "add" "(ILjava/lang/Object;)V") ∈ lw_tbl := lw_at lw_m8 42 rfl
theorem q1803 : (Jvm.Cond.instanceMethod ({ cls := "java/util/ArrayList", name := "add", desc := "(ILjava/lang/Object;)V" } : Jvm.MethodName)) ∈ lw_all := lw_g (lw_at lw_m8 43 rfl) rfl
theorem q1804 : (Jvm.Cond.publicMethod ({ cls := "java/util/ArrayList", name := "add", desc := "(ILjava/lang/Object;)V" } : Jvm.MethodName)) ∈ lw_tbl := lw_at lw_m8 44 rfl
theorem q1805 : (Jvm.Cond.code ({ cls := "java/util/ArrayList", name := "add", desc := "(ILjava/lang/Object;)V" } : Jvm.MethodName) prog_59_method_26_code (5 : Nat) (Option.none : Option Jvm.ClassFile.FieldType)) ∈ lw_all := lw_g (lw_at lw_m8 45 rfl) rfl
theorem q1806 : (Jvm.Cond.methodLink "java/util/ArrayList" (135 : Nat) ({ cls := "java/util/ArrayList", name := "rangeCheckForAdd", desc := "(I)V" } : Jvm.MethodName)) ∈ lw_all := lw_g (lw_at lw_m8 46 rfl) rfl
theorem q1807 : (Jvm.Cond.privateMethod ({ cls := "java/util/ArrayList", name := "rangeCheckForAdd", desc := "(I)V" } : Jvm.MethodName)) ∈ lw_tbl := lw_at lw_m8 47 rfl
theorem q1808 : (Jvm.Cond.instanceMethod ({ cls := "java/util/ArrayList", name := "rangeCheckForAdd", desc := "(I)V" } : Jvm.MethodName)) ∈ lw_all := lw_g (lw_at lw_m8 48 rfl) rfl
theorem q1809 : (Jvm.Cond.code ({ cls := "java/util/ArrayList", name := "rangeCheckForAdd", desc := "(I)V" } : Jvm.MethodName) prog_59_method_45_code (2 : Nat) (Option.none : Option Jvm.ClassFile.FieldType)) ∈ lw_all := lw_g (lw_at lw_m8 49 rfl) rfl
theorem q1810 : (Jvm.Cond.classLink "java/util/ArrayList" (187 : Nat) "java/lang/IndexOutOfBoundsException") ∈ lw_all := lw_g (lw_at lw_m8 50 rfl) rfl
theorem q1811 : (Jvm.Cond.methodLink "java/util/ArrayList" (198 : Nat) ({ cls := "java/util/ArrayList", name := "outOfBoundsMsg", desc := "(I)Ljava/lang/String;" } : Jvm.MethodName)) ∈ lw_all := lw_g (lw_at lw_m8 51 rfl) rfl
theorem q1812 : (Jvm.Cond.privateMethod ({ cls := "java/util/ArrayList", name := "outOfBoundsMsg", desc := "(I)Ljava/lang/String;" } : Jvm.MethodName)) ∈ lw_tbl := lw_at lw_m8 52 rfl
theorem q1813 : (Jvm.Cond.instanceMethod ({ cls := "java/util/ArrayList", name := "outOfBoundsMsg", desc := "(I)Ljava/lang/String;" } : Jvm.MethodName)) ∈ lw_all := lw_g (lw_at lw_m8 53 rfl) rfl
theorem q1814 : (Jvm.Cond.code ({ cls := "java/util/ArrayList", name := "outOfBoundsMsg", desc := "(I)Ljava/lang/String;" } : Jvm.MethodName) prog_59_method_46_code (2 : Nat) (Option.some (Jvm.ClassFile.FieldType.object "java/lang/String"))) ∈ lw_all := lw_g (lw_at lw_m8 54 rfl) rfl
theorem q1815 : (Jvm.Cond.classLink "java/util/ArrayList" (20 : Nat) "java/lang/StringBuilder") ∈ lw_all := lw_g (lw_at lw_m8 55 rfl) rfl
theorem q1816 : (Jvm.Cond.methodLink "java/util/ArrayList" (22 : Nat) ({ cls := "java/lang/StringBuilder", name := "<init>", desc := "()V" } : Jvm.MethodName)) ∈ lw_all := lw_g (lw_at lw_m8 56 rfl) rfl
theorem q1817 : (Jvm.Cond.stringRef "java/util/ArrayList" (201 : Nat) "Index: ") ∈ lw_tbl := lw_at lw_m8 57 rfl
theorem q1818 : (Jvm.Cond.methodLink "java/util/ArrayList" (25 : Nat) ({ cls := "java/lang/StringBuilder", name := "append", desc := "(Ljava/lang/String;)Ljava/lang/StringBuilder;" } : Jvm.MethodName)) ∈ lw_all := lw_g (lw_at lw_m8 58 rfl) rfl
theorem q1819 : (Jvm.Cond.methodLink "java/util/ArrayList" (29 : Nat) ({ cls := "java/lang/StringBuilder", name := "append", desc := "(I)Ljava/lang/StringBuilder;" } : Jvm.MethodName)) ∈ lw_all := lw_g (lw_at lw_m8 59 rfl) rfl
theorem q1820 : (Jvm.Cond.stringRef "java/util/ArrayList" (203 : Nat) ", Size: ") ∈ lw_tbl := lw_at lw_m8 60 rfl
theorem q1821 : (Jvm.Cond.methodLink "java/util/ArrayList" (32 : Nat) ({ cls := "java/lang/StringBuilder", name := "toString", desc := "()Ljava/lang/String;" } : Jvm.MethodName)) ∈ lw_all := lw_g (lw_at lw_m8 61 rfl) rfl
theorem q1822 : (Jvm.Cond.methodLink "java/util/ArrayList" (193 : Nat) ({ cls := "java/lang/IndexOutOfBoundsException", name := "<init>", desc := "(Ljava/lang/String;)V" } : Jvm.MethodName)) ∈ lw_all := lw_g (lw_at lw_m8 62 rfl) rfl
theorem q1823 : (Jvm.Cond.methodLink "java/util/ArrayList" (112 : Nat) ({ cls := "java/lang/System", name := "arraycopy", desc := "(Ljava/lang/Object;ILjava/lang/Object;II)V" } : Jvm.MethodName)) ∈ lw_all := lw_g (lw_at lw_m8 63 rfl) rfl
theorem q1824 : (Jvm.Cond.methodLink "MasterTree$Master" (145 : Nat) ({ cls := "MasterTree$Master", name := "indexes", desc := "(LMasterTree$Entry;Z)V" } : Jvm.MethodName)) ∈ lw_all := lw_g (lw_at lw_m8 64 rfl) rfl
theorem q1825 : (Jvm.Cond.privateMethod ({ cls := "MasterTree$Master", name := "indexes", desc := "(LMasterTree$Entry;Z)V" } : Jvm.MethodName)) ∈ lw_tbl := lw_at lw_m8 65 rfl
theorem q1826 : (Jvm.Cond.instanceMethod ({ cls := "MasterTree$Master", name := "indexes", desc := "(LMasterTree$Entry;Z)V" } : Jvm.MethodName)) ∈ lw_all := lw_g (lw_at lw_m8 66 rfl) rfl
theorem q1827 : (Jvm.Cond.code ({ cls := "MasterTree$Master", name := "indexes", desc := "(LMasterTree$Entry;Z)V" } : Jvm.MethodName) prog_21_method_4_code (10 : Nat) (Option.none : Option Jvm.ClassFile.FieldType)) ∈ lw_all := lw_g (lw_at lw_m8 67 rfl) rfl
theorem q1828 : (Jvm.Cond.methodLink "MasterTree$Master" (68 : Nat) ({ cls := "java/util/TreeMap", name := "keySet", desc := "()Ljava/util/Set;" } : Jvm.MethodName)) ∈ lw_all := lw_g (lw_at lw_m8 68 rfl) rfl
theorem q1829 : (Jvm.Cond.instanceMethod ({ cls := "java/util/TreeMap", name := "keySet", desc := "()Ljava/util/Set;" } : Jvm.MethodName)) ∈ lw_all := lw_g (lw_at lw_m8 69 rfl) rfl
theorem q1830 : (Jvm.Cond.selects "java/util/TreeMap" ({ cls := "java/util/TreeMap", name := "keySet", desc := "()Ljava/util/Set;" } : Jvm.MethodName) ({ cls := "java/util/TreeMap", name := "keySet", desc := "()Ljava/util/Set;" } : Jvm.MethodName)) ∈ lw_all := lw_g (lw_at lw_m8 70 rfl) rfl
theorem q1831 : (Jvm.Cond.code ({ cls := "java/util/TreeMap", name := "keySet", desc := "()Ljava/util/Set;" } : Jvm.MethodName) prog_79_method_49_code (1 : Nat) (Option.some (Jvm.ClassFile.FieldType.object "java/util/Set"))) ∈ lw_all := lw_g (lw_at lw_m8 71 rfl) rfl
theorem q1832 : (Jvm.Cond.methodLink "java/util/TreeMap" (219 : Nat) ({ cls := "java/util/TreeMap", name := "navigableKeySet", desc := "()Ljava/util/NavigableSet;" } : Jvm.MethodName)) ∈ lw_all := lw_g (lw_at lw_m8 72 rfl) rfl
theorem q1833 : (Jvm.Cond.instanceMethod ({ cls := "java/util/TreeMap", name := "navigableKeySet", desc := "()Ljava/util/NavigableSet;" } : Jvm.MethodName)) ∈ lw_all := lw_g (lw_at lw_m8 73 rfl) rfl
theorem q1834 : (Jvm.Cond.selects "java/util/TreeMap" ({ cls := "java/util/TreeMap", name := "navigableKeySet", desc := "()Ljava/util/NavigableSet;" } : Jvm.MethodName) ({ cls := "java/util/TreeMap", name := "navigableKeySet", desc := "()Ljava/util/NavigableSet;" } : Jvm.MethodName)) ∈ lw_all := lw_g (lw_at lw_m8 74 rfl) rfl
theorem q1835 : (Jvm.Cond.code ({ cls := "java/util/TreeMap", name := "navigableKeySet", desc := "()Ljava/util/NavigableSet;" } : Jvm.MethodName) prog_79_method_50_code (2 : Nat) (Option.some (Jvm.ClassFile.FieldType.object "java/util/NavigableSet"))) ∈ lw_all := lw_g (lw_at lw_m8 75 rfl) rfl
theorem q1836 : (Jvm.Cond.classLink "java/util/TreeMap" (222 : Nat) "java/util/TreeMap$KeySet") ∈ lw_all := lw_g (lw_at lw_m8 76 rfl) rfl
theorem q1837 : (Jvm.Cond.instantiable "java/util/TreeMap$KeySet" (1 : Nat)) ∈ lw_all := lw_g (lw_at lw_m8 77 rfl) rfl
theorem q1838 : (Jvm.Cond.methodLink "java/util/TreeMap" (224 : Nat) ({ cls := "java/util/TreeMap$KeySet", name := "<init>", desc := "(Ljava/util/NavigableMap;)V" } : Jvm.MethodName)) ∈ lw_all := lw_g (lw_at lw_m8 78 rfl) rfl
theorem q1839 : (Jvm.Cond.instanceMethod ({ cls := "java/util/TreeMap$KeySet", name := "<init>", desc := "(Ljava/util/NavigableMap;)V" } : Jvm.MethodName)) ∈ lw_all := lw_g (lw_at lw_m8 79 rfl) rfl
theorem q1840 : (Jvm.Cond.code ({ cls := "java/util/TreeMap$KeySet", name := "<init>", desc := "(Ljava/util/NavigableMap;)V" } : Jvm.MethodName) prog_86_method_1_code (2 : Nat) (Option.none : Option Jvm.ClassFile.FieldType)) ∈ lw_all := lw_g (lw_at lw_m8 80 rfl) rfl
theorem q1841 : (Jvm.Cond.methodLink "java/util/TreeMap$KeySet" (1 : Nat) ({ cls := "java/util/AbstractSet", name := "<init>", desc := "()V" } : Jvm.MethodName)) ∈ lw_all := lw_g (lw_at lw_m8 81 rfl) rfl
theorem q1842 : (Jvm.Cond.fieldLink "java/util/TreeMap$KeySet" (7 : Nat) "java/util/TreeMap$KeySet" "m" "Ljava/util/NavigableMap;") ∈ lw_all := lw_g (lw_at lw_m8 82 rfl) rfl
theorem q1843 : (Jvm.Cond.laysFinal "java/util/TreeMap$KeySet" "java/util/TreeMap$KeySet" "m" "Ljava/util/NavigableMap;") ∈ lw_all := lw_g (lw_at lw_m8 83 rfl) rfl
theorem q1844 : (Jvm.Cond.soleField "java/util/TreeMap$KeySet" "m") ∈ lw_all := lw_g (lw_at lw_m8 84 rfl) rfl
theorem q1845 : (Jvm.Cond.superclass "java/util/TreeMap$KeySet" "java/util/AbstractSet") ∈ lw_all := lw_g (lw_at lw_m8 85 rfl) rfl
theorem q1846 : (Jvm.Cond.methodLink "MasterTree$Master" (93 : Nat) ({ cls := "java/lang/Integer", name := "valueOf", desc := "(I)Ljava/lang/Integer;" } : Jvm.MethodName)) ∈ lw_all := lw_g (lw_at lw_m8 86 rfl) rfl
theorem q1847 : (Jvm.Cond.methodLink "MasterTree$Master" (97 : Nat) ({ cls := "java/util/TreeMap", name := "get", desc := "(Ljava/lang/Object;)Ljava/lang/Object;" } : Jvm.MethodName)) ∈ lw_all := lw_g (lw_at lw_m8 87 rfl) rfl
theorem q1848 : (Jvm.Cond.instanceMethod ({ cls := "java/util/TreeMap", name := "get", desc := "(Ljava/lang/Object;)Ljava/lang/Object;" } : Jvm.MethodName)) ∈ lw_all := lw_g (lw_at lw_m8 88 rfl) rfl
theorem q1849 : (Jvm.Cond.selects "java/util/TreeMap" ({ cls := "java/util/TreeMap", name := "get", desc := "(Ljava/lang/Object;)Ljava/lang/Object;" } : Jvm.MethodName) ({ cls := "java/util/TreeMap", name := "get", desc := "(Ljava/lang/Object;)Ljava/lang/Object;" } : Jvm.MethodName)) ∈ lw_all := lw_g (lw_at lw_m8 89 rfl) rfl
theorem q1850 : (Jvm.Cond.code ({ cls := "java/util/TreeMap", name := "get", desc := "(Ljava/lang/Object;)Ljava/lang/Object;" } : Jvm.MethodName) prog_79_method_8_code (3 : Nat) (Option.some (Jvm.ClassFile.FieldType.object "java/lang/Object"))) ∈ lw_all := lw_g (lw_at lw_m8 90 rfl) rfl
theorem q1851 : (Jvm.Cond.classLink "MasterTree$Master" (101 : Nat) "java/lang/Long") ∈ lw_all := lw_g (lw_at lw_m8 91 rfl) rfl
theorem q1852 : (Jvm.Cond.methodLink "MasterTree$Master" (103 : Nat) ({ cls := "java/lang/Long", name := "longValue", desc := "()J" } : Jvm.MethodName)) ∈ lw_all := lw_g (lw_at lw_m8 92 rfl) rfl
theorem q1853 : (Jvm.Cond.instanceMethod ({ cls := "java/lang/Long", name := "longValue", desc := "()J" } : Jvm.MethodName)) ∈ lw_all := lw_g (lw_at lw_m8 93 rfl) rfl
theorem q1854 : (Jvm.Cond.selects "java/lang/Long" ({ cls := "java/lang/Long", name := "longValue", desc := "()J" } : Jvm.MethodName) ({ cls := "java/lang/Long", name := "longValue", desc := "()J" } : Jvm.MethodName)) ∈ lw_all := lw_g (lw_at lw_m8 94 rfl) rfl
theorem q1855 : (Jvm.Cond.code ({ cls := "java/lang/Long", name := "longValue", desc := "()J" } : Jvm.MethodName) prog_40_method_31_code (1 : Nat) (Option.some Jvm.ClassFile.FieldType.long)) ∈ lw_all := lw_g (lw_at lw_m8 95 rfl) rfl
theorem q1856 : (Jvm.Cond.constantLong "MasterTree$Master" (107 : Nat) (-1 : Int64)) ∈ lw_all := lw_g (lw_at lw_m8 96 rfl) rfl
theorem q1857 : (Jvm.Cond.methodLink "MasterTree$Master" (109 : Nat) ({ cls := "java/lang/Long", name := "valueOf", desc := "(J)Ljava/lang/Long;" } : Jvm.MethodName)) ∈ lw_all := lw_g (lw_at lw_m8 97 rfl) rfl
theorem q1858 : (Jvm.Cond.static ({ cls := "java/lang/Long", name := "valueOf", desc := "(J)Ljava/lang/Long;" } : Jvm.MethodName)) ∈ lw_all := lw_g (lw_at lw_m8 98 rfl) rfl
theorem q1859 : (Jvm.Cond.code ({ cls := "java/lang/Long", name := "valueOf", desc := "(J)Ljava/lang/Long;" } : Jvm.MethodName) prog_40_method_24_code (3 : Nat) (Option.some (Jvm.ClassFile.FieldType.object "java/lang/Long"))) ∈ lw_all := lw_g (lw_at lw_m8 99 rfl) rfl
theorem q1860 : (Jvm.Cond.constantLong "java/lang/Long" (230 : Nat) (-128 : Int64)) ∈ lw_all := lw_g (lw_at lw_m8 100 rfl) rfl
theorem q1861 : (Jvm.Cond.constantLong "java/lang/Long" (232 : Nat) (127 : Int64)) ∈ lw_all := lw_g (lw_at lw_m8 101 rfl) rfl
theorem q1862 : (Jvm.Cond.fieldLink "java/lang/Long" (234 : Nat) "java/lang/Long$LongCache" "cache" "[Ljava/lang/Long;") ∈ lw_all := lw_g (lw_at lw_m8 102 rfl) rfl
theorem q1863 : (Jvm.Cond.laysStatic "java/lang/Long$LongCache" "cache" "[Ljava/lang/Long;") ∈ lw_tbl := lw_at lw_m8 103 rfl
theorem q1864 : (Jvm.Cond.instantiable "java/lang/Long" (1 : Nat)) ∈ lw_all := lw_g (lw_at lw_m8 104 rfl) rfl
theorem q1865 : (Jvm.Cond.methodLink "java/lang/Long" (240 : Nat) ({ cls := "java/lang/Long", name := "<init>", desc := "(J)V" } : Jvm.MethodName)) ∈ lw_all := lw_g (lw_at lw_m8 105 rfl) rfl
theorem q1866 : (Jvm.Cond.instanceMethod ({ cls := "java/lang/Long", name := "<init>", desc := "(J)V" } : Jvm.MethodName)) ∈ lw_all := lw_g (lw_at lw_m8 106 rfl) rfl
theorem q1867 : (Jvm.Cond.code ({ cls := "java/lang/Long", name := "<init>", desc := "(J)V" } : Jvm.MethodName) prog_40_method_26_code (3 : Nat) (Option.none : Option Jvm.ClassFile.FieldType)) ∈ lw_all := lw_g (lw_at lw_m8 107 rfl) rfl
theorem q1868 : (Jvm.Cond.methodLink "java/lang/Long" (270 : Nat) ({ cls := "java/lang/Number", name := "<init>", desc := "()V" } : Jvm.MethodName)) ∈ lw_all := lw_g (lw_at lw_m8 108 rfl) rfl
theorem q1869 : (Jvm.Cond.fieldLink "java/lang/Long" (273 : Nat) "java/lang/Long" "value" "J") ∈ lw_all := lw_g (lw_at lw_m8 109 rfl) rfl
theorem q1870 : (Jvm.Cond.laysFinal "java/lang/Long" "java/lang/Long" "value" "J") ∈ lw_all := lw_g (lw_at lw_m8 110 rfl) rfl
theorem q1871 : (Jvm.Cond.soleField "java/lang/Long" "value") ∈ lw_all := lw_g (lw_at lw_m8 111 rfl) rfl
theorem q1872 : (Jvm.Cond.superclass "java/lang/Long" "java/lang/Number") ∈ lw_all := lw_g (lw_at lw_m8 112 rfl) rfl
theorem q1873 : (Jvm.Cond.methodLink "MasterTree$Master" (112 : Nat) ({ cls := "java/util/TreeMap", name := "put", desc := "(Ljava/lang/Object;Ljava/lang/Object;)Ljava/lang/Object;" } : Jvm.MethodName)) ∈ lw_all := lw_g (lw_at lw_m8 113 rfl) rfl
theorem q1874 : (Jvm.Cond.instanceMethod ({ cls := "java/util/TreeMap", name := "put", desc := "(Ljava/lang/Object;Ljava/lang/Object;)Ljava/lang/Object;" } : Jvm.MethodName)) ∈ lw_all := lw_g (lw_at lw_m8 114 rfl) rfl
theorem q1875 : (Jvm.Cond.selects "java/util/TreeMap" ({ cls := "java/util/TreeMap", name := "put", desc := "(Ljava/lang/Object;Ljava/lang/Object;)Ljava/lang/Object;" } : Jvm.MethodName) ({ cls := "java/util/TreeMap", name := "put", desc := "(Ljava/lang/Object;Ljava/lang/Object;)Ljava/lang/Object;" } : Jvm.MethodName)) ∈ lw_all := lw_g (lw_at lw_m8 115 rfl) rfl
theorem q1876 : (Jvm.Cond.code ({ cls := "java/util/TreeMap", name := "put", desc := "(Ljava/lang/Object;Ljava/lang/Object;)Ljava/lang/Object;" } : Jvm.MethodName) prog_79_method_21_code (3 : Nat) (Option.some (Jvm.ClassFile.FieldType.object "java/lang/Object"))) ∈ lw_all := lw_g (lw_at lw_m8 116 rfl) rfl
theorem q1877 : (Jvm.Cond.methodLink "java/util/TreeMap" (127 : Nat) ({ cls := "java/util/TreeMap", name := "put", desc := "(Ljava/lang/Object;Ljava/lang/Object;Z)Ljava/lang/Object;" } : Jvm.MethodName)) ∈ lw_all := lw_g (lw_at lw_m8 117 rfl) rfl
theorem q1878 : (Jvm.Cond.privateMethod ({ cls := "java/util/TreeMap", name := "put", desc := "(Ljava/lang/Object;Ljava/lang/Object;Z)Ljava/lang/Object;" } : Jvm.MethodName)) ∈ lw_tbl := lw_at lw_m8 118 rfl
theorem q1879 : (Jvm.Cond.instanceMethod ({ cls := "java/util/TreeMap", name := "put", desc := "(Ljava/lang/Object;Ljava/lang/Object;Z)Ljava/lang/Object;" } : Jvm.MethodName)) ∈ lw_all := lw_g (lw_at lw_m8 119 rfl) rfl
theorem q1880 : (Jvm.Cond.code ({ cls := "java/util/TreeMap", name := "put", desc := "(Ljava/lang/Object;Ljava/lang/Object;Z)Ljava/lang/Object;" } : Jvm.MethodName) prog_79_method_31_code (10 : Nat) (Option.some (Jvm.ClassFile.FieldType.object "java/lang/Object"))) ∈ lw_all := lw_g (lw_at lw_m8 120 rfl) rfl
theorem q1881 : (Jvm.Cond.methodLink "java/util/TreeMap" (135 : Nat) ({ cls := "java/util/TreeMap", name := "addEntryToEmptyMap", desc := "(Ljava/lang/Object;Ljava/lang/Object;)V" } : Jvm.MethodName)) ∈ lw_all := lw_g (lw_at lw_m8 121 rfl) rfl
theorem q1882 : (Jvm.Cond.privateMethod ({ cls := "java/util/TreeMap", name := "addEntryToEmptyMap", desc := "(Ljava/lang/Object;Ljava/lang/Object;)V" } : Jvm.MethodName)) ∈ lw_tbl := lw_at lw_m8 122 rfl
theorem q1883 : (Jvm.Cond.instanceMethod ({ cls := "java/util/TreeMap", name := "addEntryToEmptyMap", desc := "(Ljava/lang/Object;Ljava/lang/Object;)V" } : Jvm.MethodName)) ∈ lw_all := lw_g (lw_at lw_m8 123 rfl) rfl
theorem q1884 : (Jvm.Cond.code ({ cls := "java/util/TreeMap", name := "addEntryToEmptyMap", desc := "(Ljava/lang/Object;Ljava/lang/Object;)V" } : Jvm.MethodName) prog_79_method_30_code (3 : Nat) (Option.none : Option Jvm.ClassFile.FieldType)) ∈ lw_all := lw_g (lw_at lw_m8 124 rfl) rfl
theorem q1885 : (Jvm.Cond.classLink "java/util/TreeMap" (59 : Nat) "java/util/TreeMap$Entry") ∈ lw_all := lw_g (lw_at lw_m8 125 rfl) rfl
theorem q1886 : (Jvm.Cond.instantiable "java/util/TreeMap$Entry" (6 : Nat)) ∈ lw_all := lw_g (lw_at lw_m8 126 rfl) rfl
theorem q1887 : (Jvm.Cond.methodLink "java/util/TreeMap" (167 : Nat) ({ cls := "java/util/TreeMap$Entry", name := "<init>", desc := "(Ljava/lang/Object;Ljava/lang/Object;Ljava/util/TreeMap$Entry;)V" } : Jvm.MethodName)) ∈ lw_all := lw_g (lw_at lw_m8 127 rfl) rfl
theorem q1888 : (Jvm.Cond.instanceMethod ({ cls := "java/util/TreeMap$Entry", name := "<init>", desc := "(Ljava/lang/Object;Ljava/lang/Object;Ljava/util/TreeMap$Entry;)V" } : Jvm.MethodName)) ∈ lw_all := lw_g (lw_at lw_m8 128 rfl) rfl
theorem q1889 : (Jvm.Cond.code ({ cls := "java/util/TreeMap$Entry", name := "<init>", desc := "(Ljava/lang/Object;Ljava/lang/Object;Ljava/util/TreeMap$Entry;)V" } : Jvm.MethodName) prog_82_method_1_code (4 : Nat) (Option.none : Option Jvm.ClassFile.FieldType)) ∈ lw_all := lw_g (lw_at lw_m8 129 rfl) rfl
theorem q1890 : (Jvm.Cond.methodLink "java/util/TreeMap$Entry" (3 : Nat) ({ cls := "java/lang/Object", name := "<init>", desc := "()V" } : Jvm.MethodName)) ∈ lw_all := lw_g (lw_at lw_m8 130 rfl) rfl
theorem q1891 : (Jvm.Cond.fieldLink "java/util/TreeMap$Entry" (15 : Nat) "java/util/TreeMap$Entry" "key" "Ljava/lang/Object;") ∈ lw_all := lw_g (lw_at lw_m8 131 rfl) rfl
theorem q1892 : (Jvm.Cond.fieldLink "java/util/TreeMap$NavigableSubMap$SubMapIterator" (39 : Nat) "java/util/TreeMap$Entry" "key" "Ljava/lang/Object;") ∈ lw_all := lw_g (lw_at lw_m8 132 rfl) rfl
theorem q1893 : (Jvm.Cond.fieldLink "java/util/TreeMap$KeyIterator" (13 : Nat) "java/util/TreeMap$Entry" "key" "Ljava/lang/Object;") ∈ lw_all := lw_g (lw_at lw_m8 133 rfl) rfl
theorem q1894 : (Jvm.Cond.fieldLink "java/util/TreeMap$NavigableSubMap$SubMapKeyIterator" (17 : Nat) "java/util/TreeMap$Entry" "key" "Ljava/lang/Object;") ∈ lw_all := lw_g (lw_at lw_m8 134 rfl) rfl
theorem q1895 : (Jvm.Cond.fieldLink "java/util/TreeMap$NavigableSubMap$EntrySetView" (59 : Nat) "java/util/TreeMap$Entry" "key" "Ljava/lang/Object;") ∈ lw_all := lw_g (lw_at lw_m8 135 rfl) rfl
theorem q1896 : (Jvm.Cond.fieldLink "java/util/TreeMap$NavigableSubMap" (70 : Nat) "java/util/TreeMap$Entry" "key" "Ljava/lang/Object;") ∈ lw_all := lw_g (lw_at lw_m8 136 rfl) rfl
theorem q1897 : (Jvm.Cond.fieldLink "java/util/TreeMap" (105 : Nat) "java/util/TreeMap$Entry" "key" "Ljava/lang/Object;") ∈ lw_all := lw_g (lw_at lw_m8 137 rfl) rfl
theorem q1898 : (Jvm.Cond.fieldLink "java/util/TreeMap$Entry" (19 : Nat) "java/util/TreeMap$Entry" "value" "Ljava/lang/Object;") ∈ lw_all := lw_g (lw_at lw_m8 138 rfl) rfl
theorem q1899 : (Jvm.Cond.fieldLink "java/util/TreeMap$ValueIterator" (13 : Nat) "java/util/TreeMap$Entry" "value" "Ljava/lang/Object;") ∈ lw_all := lw_g (lw_at lw_m8 139 rfl) rfl
theorem q1900 : (Jvm.Cond.fieldLink "java/util/TreeMap" (58 : Nat) "java/util/TreeMap$Entry" "value" "Ljava/lang/Object;") ∈ lw_all := lw_g (lw_at lw_m8 140 rfl) rfl
theorem q1901 : (Jvm.Cond.fieldLink "java/util/TreeMap$PrivateEntryIterator" (45 : Nat) "java/util/TreeMap$Entry" "left" "Ljava/util/TreeMap$Entry;") ∈ lw_all := lw_g (lw_at lw_m8 141 rfl) rfl
theorem q1902 : (Jvm.Cond.fieldLink "java/util/TreeMap$NavigableSubMap$SubMapIterator" (63 : Nat) "java/util/TreeMap$Entry" "left" "Ljava/util/TreeMap$Entry;") ∈ lw_all := lw_g (lw_at lw_m8 142 rfl) rfl
theorem q1903 : (Jvm.Cond.fieldLink "java/util/TreeMap" (111 : Nat) "java/util/TreeMap$Entry" "left" "Ljava/util/TreeMap$Entry;") ∈ lw_all := lw_g (lw_at lw_m8 143 rfl) rfl
theorem q1904 : (Jvm.Cond.fieldLink "java/util/TreeMap$PrivateEntryIterator" (50 : Nat) "java/util/TreeMap$Entry" "right" "Ljava/util/TreeMap$Entry;") ∈ lw_all := lw_g (lw_at lw_m8 144 rfl) rfl
theorem q1905 : (Jvm.Cond.fieldLink "java/util/TreeMap$NavigableSubMap$SubMapIterator" (66 : Nat) "java/util/TreeMap$Entry" "right" "Ljava/util/TreeMap$Entry;") ∈ lw_all := lw_g (lw_at lw_m8 145 rfl) rfl
theorem q1906 : (Jvm.Cond.fieldLink "java/util/TreeMap" (114 : Nat) "java/util/TreeMap$Entry" "right" "Ljava/util/TreeMap$Entry;") ∈ lw_all := lw_g (lw_at lw_m8 146 rfl) rfl
theorem q1907 : (Jvm.Cond.fieldLink "java/util/TreeMap$Entry" (22 : Nat) "java/util/TreeMap$Entry" "parent" "Ljava/util/TreeMap$Entry;") ∈ lw_all := lw_g (lw_at lw_m8 147 rfl) rfl
theorem q1908 : (Jvm.Cond.fieldLink "java/util/TreeMap" (124 : Nat) "java/util/TreeMap$Entry" "parent" "Ljava/util/TreeMap$Entry;") ∈ lw_all := lw_g (lw_at lw_m8 148 rfl) rfl
theorem q1909 : (Jvm.Cond.fieldLink "java/util/TreeMap$Entry" (9 : Nat) "java/util/TreeMap$Entry" "color" "Z") ∈ lw_all := lw_g (lw_at lw_m8 149 rfl) rfl
theorem q1910 : (Jvm.Cond.fieldLink "java/util/TreeMap" (290 : Nat) "java/util/TreeMap$Entry" "color" "Z") ∈ lw_all := lw_g (lw_at lw_m8 150 rfl) rfl
theorem q1911 : (Jvm.Cond.lays "java/util/TreeMap$Entry" "java/util/TreeMap$Entry" "key" "Ljava/lang/Object;") ∈ lw_all := lw_g (lw_at lw_m8 151 rfl) rfl
theorem q1912 : (Jvm.Cond.soleField "java/util/TreeMap$Entry" "key") ∈ lw_all := lw_g (lw_at lw_m8 152 rfl) rfl
theorem q1913 : (Jvm.Cond.lays "java/util/TreeMap$Entry" "java/util/TreeMap$Entry" "value" "Ljava/lang/Object;") ∈ lw_all := lw_g (lw_at lw_m8 153 rfl) rfl
theorem q1914 : (Jvm.Cond.soleField "java/util/TreeMap$Entry" "value") ∈ lw_all := lw_g (lw_at lw_m8 154 rfl) rfl
theorem q1915 : (Jvm.Cond.lays "java/util/TreeMap$Entry" "java/util/TreeMap$Entry" "left" "Ljava/util/TreeMap$Entry;") ∈ lw_all := lw_g (lw_at lw_m8 155 rfl) rfl
theorem q1916 : (Jvm.Cond.soleField "java/util/TreeMap$Entry" "left") ∈ lw_all := lw_g (lw_at lw_m8 156 rfl) rfl
theorem q1917 : (Jvm.Cond.lays "java/util/TreeMap$Entry" "java/util/TreeMap$Entry" "right" "Ljava/util/TreeMap$Entry;") ∈ lw_all := lw_g (lw_at lw_m8 157 rfl) rfl
theorem q1918 : (Jvm.Cond.soleField "java/util/TreeMap$Entry" "right") ∈ lw_all := lw_g (lw_at lw_m8 158 rfl) rfl
theorem q1919 : (Jvm.Cond.lays "java/util/TreeMap$Entry" "java/util/TreeMap$Entry" "parent" "Ljava/util/TreeMap$Entry;") ∈ lw_all := lw_g (lw_at lw_m8 159 rfl) rfl
theorem q1920 : (Jvm.Cond.soleField "java/util/TreeMap$Entry" "parent") ∈ lw_all := lw_g (lw_at lw_m8 160 rfl) rfl
theorem q1921 : (Jvm.Cond.lays "java/util/TreeMap$Entry" "java/util/TreeMap$Entry" "color" "Z") ∈ lw_all := lw_g (lw_at lw_m8 161 rfl) rfl
theorem q1922 : (Jvm.Cond.soleField "java/util/TreeMap$Entry" "color") ∈ lw_all := lw_g (lw_at lw_m8 162 rfl) rfl
theorem q1923 : (Jvm.Cond.superclass "java/util/TreeMap$Entry" "java/lang/Object") ∈ lw_all := lw_g (lw_at lw_m8 163 rfl) rfl
theorem q1924 : (Jvm.Cond.methodLink "java/util/TreeMap" (139 : Nat) ({ cls := "java/util/TreeMap", name := "addEntry", desc := "(Ljava/lang/Object;Ljava/lang/Object;Ljava/util/TreeMap$Entry;Z)V" } : Jvm.MethodName)) ∈ lw_all := lw_g (lw_at lw_m8 164 rfl) rfl
theorem q1925 : (Jvm.Cond.privateMethod ({ cls := "java/util/TreeMap", name := "addEntry", desc := "(Ljava/lang/Object;Ljava/lang/Object;Ljava/util/TreeMap$Entry;Z)V" } : Jvm.MethodName)) ∈ lw_tbl := lw_at lw_m8 165 rfl
theorem q1926 : (Jvm.Cond.instanceMethod ({ cls := "java/util/TreeMap", name := "addEntry", desc := "(Ljava/lang/Object;Ljava/lang/Object;Ljava/util/TreeMap$Entry;Z)V" } : Jvm.MethodName)) ∈ lw_all := lw_g (lw_at lw_m8 166 rfl) rfl
theorem q1927 : (Jvm.Cond.code ({ cls := "java/util/TreeMap", name := "addEntry", desc := "(Ljava/lang/Object;Ljava/lang/Object;Ljava/util/TreeMap$Entry;Z)V" } : Jvm.MethodName) prog_79_method_29_code (6 : Nat) (Option.none : Option Jvm.ClassFile.FieldType)) ∈ lw_all := lw_g (lw_at lw_m8 167 rfl) rfl
theorem q1928 : (Jvm.Cond.methodLink "java/util/TreeMap" (170 : Nat) ({ cls := "java/util/TreeMap", name := "fixAfterInsertion", desc := "(Ljava/util/TreeMap$Entry;)V" } : Jvm.MethodName)) ∈ lw_all := lw_g (lw_at lw_m8 168 rfl) rfl
theorem q1929 : (Jvm.Cond.privateMethod ({ cls := "java/util/TreeMap", name := "fixAfterInsertion", desc := "(Ljava/util/TreeMap$Entry;)V" } : Jvm.MethodName)) ∈ lw_tbl := lw_at lw_m8 169 rfl
theorem q1930 : (Jvm.Cond.instanceMethod ({ cls := "java/util/TreeMap", name := "fixAfterInsertion", desc := "(Ljava/util/TreeMap$Entry;)V" } : Jvm.MethodName)) ∈ lw_all := lw_g (lw_at lw_m8 170 rfl) rfl
theorem q1931 : (Jvm.Cond.code ({ cls := "java/util/TreeMap", name := "fixAfterInsertion", desc := "(Ljava/util/TreeMap$Entry;)V" } : Jvm.MethodName) prog_79_method_83_code (3 : Nat) (Option.none : Option Jvm.ClassFile.FieldType)) ∈ lw_all := lw_g (lw_at lw_m8 171 rfl) rfl
theorem q1932 : (Jvm.Cond.methodLink "java/util/TreeMap" (294 : Nat) ({ cls := "java/util/TreeMap", name := "parentOf", desc := "(Ljava/util/TreeMap$Entry;)Ljava/util/TreeMap$Entry;" } : Jvm.MethodName)) ∈ lw_all := lw_g (lw_at lw_m8 172 rfl) rfl
theorem q1933 : (Jvm.Cond.static ({ cls := "java/util/TreeMap", name := "parentOf", desc := "(Ljava/util/TreeMap$Entry;)Ljava/util/TreeMap$Entry;" } : Jvm.MethodName)) ∈ lw_all := lw_g (lw_at lw_m8 173 rfl) rfl
theorem q1934 : (Jvm.Cond.code ({ cls := "java/util/TreeMap", name := "parentOf", desc := "(Ljava/util/TreeMap$Entry;)Ljava/util/TreeMap$Entry;" } : Jvm.MethodName) prog_79_method_77_code (1 : Nat) (Option.some (Jvm.ClassFile.FieldType.object "java/util/TreeMap$Entry"))) ∈ lw_all := lw_g (lw_at lw_m8 174 rfl) rfl
theorem q1935 : (Jvm.Cond.methodLink "java/util/TreeMap" (297 : Nat) ({ cls := "java/util/TreeMap", name := "leftOf", desc := "(Ljava/util/TreeMap$Entry;)Ljava/util/TreeMap$Entry;" } : Jvm.MethodName)) ∈ lw_all := lw_g (lw_at lw_m8 175 rfl) rfl
theorem q1936 : (Jvm.Cond.static ({ cls := "java/util/TreeMap", name := "leftOf", desc := "(Ljava/util/TreeMap$Entry;)Ljava/util/TreeMap$Entry;" } : Jvm.MethodName)) ∈ lw_all := lw_g (lw_at lw_m8 176 rfl) rfl
theorem q1937 : (Jvm.Cond.code ({ cls := "java/util/TreeMap", name := "leftOf", desc := "(Ljava/util/TreeMap$Entry;)Ljava/util/TreeMap$Entry;" } : Jvm.MethodName) prog_79_method_79_code (1 : Nat) (Option.some (Jvm.ClassFile.FieldType.object "java/util/TreeMap$Entry"))) ∈ lw_all := lw_g (lw_at lw_m8 177 rfl) rfl
theorem q1938 : (Jvm.Cond.methodLink "java/util/TreeMap" (300 : Nat) ({ cls := "java/util/TreeMap", name := "rightOf", desc := "(Ljava/util/TreeMap$Entry;)Ljava/util/TreeMap$Entry;" } : Jvm.MethodName)) ∈ lw_all := lw_g (lw_at lw_m8 178 rfl) rfl
theorem q1939 : (Jvm.Cond.static ({ cls := "java/util/TreeMap", name := "rightOf", desc := "(Ljava/util/TreeMap$Entry;)Ljava/util/TreeMap$Entry;" } : Jvm.MethodName)) ∈ lw_all := lw_g (lw_at lw_m8 179 rfl) rfl
theorem q1940 : (Jvm.Cond.code ({ cls := "java/util/TreeMap", name := "rightOf", desc := "(Ljava/util/TreeMap$Entry;)Ljava/util/TreeMap$Entry;" } : Jvm.MethodName) prog_79_method_80_code (1 : Nat) (Option.some (Jvm.ClassFile.FieldType.object "java/util/TreeMap$Entry"))) ∈ lw_all := lw_g (lw_at lw_m8 180 rfl) rfl
theorem q1941 : (Jvm.Cond.methodLink "java/util/TreeMap" (303 : Nat) ({ cls := "java/util/TreeMap", name := "colorOf", desc := "(Ljava/util/TreeMap$Entry;)Z" } : Jvm.MethodName)) ∈ lw_all := lw_g (lw_at lw_m8 181 rfl) rfl
theorem q1942 : (Jvm.Cond.static ({ cls := "java/util/TreeMap", name := "colorOf", desc := "(Ljava/util/TreeMap$Entry;)Z" } : Jvm.MethodName)) ∈ lw_all := lw_g (lw_at lw_m8 182 rfl) rfl
theorem q1943 : (Jvm.Cond.code ({ cls := "java/util/TreeMap", name := "colorOf", desc := "(Ljava/util/TreeMap$Entry;)Z" } : Jvm.MethodName) prog_79_method_76_code (1 : Nat) (Option.some Jvm.ClassFile.FieldType.boolean)) ∈ lw_all := lw_g (lw_at lw_m8 183 rfl) rfl
theorem q1944 : (Jvm.Cond.methodLink "java/util/TreeMap" (307 : Nat) ({ cls := "java/util/TreeMap", name := "setColor", desc := "(Ljava/util/TreeMap$Entry;Z)V" } : Jvm.MethodName)) ∈ lw_all := lw_g (lw_at lw_m8 184 rfl) rfl
theorem q1945 : (Jvm.Cond.static ({ cls := "java/util/TreeMap", name := "setColor", desc := "(Ljava/util/TreeMap$Entry;Z)V" } : Jvm.MethodName)) ∈ lw_all := lw_g (lw_at lw_m8 185 rfl) rfl
theorem q1946 : (Jvm.Cond.code ({ cls := "java/util/TreeMap", name := "setColor", desc := "(Ljava/util/TreeMap$Entry;Z)V" } : Jvm.MethodName) prog_79_method_78_code (2 : Nat) (Option.none : Option Jvm.ClassFile.FieldType)) ∈ lw_all := lw_g (lw_at lw_m8 186 rfl) rfl
theorem q1947 : (Jvm.Cond.methodLink "java/util/TreeMap" (311 : Nat) ({ cls := "java/util/TreeMap", name := "rotateLeft", desc := "(Ljava/util/TreeMap$Entry;)V" } : Jvm.MethodName)) ∈ lw_all := lw_g (lw_at lw_m8 187 rfl) rfl
theorem q1948 : (Jvm.Cond.privateMethod ({ cls := "java/util/TreeMap", name := "rotateLeft", desc := "(Ljava/util/TreeMap$Entry;)V" } : Jvm.MethodName)) ∈ lw_tbl := lw_at lw_m8 188 rfl
theorem q1949 : (Jvm.Cond.instanceMethod ({ cls := "java/util/TreeMap", name := "rotateLeft", desc := "(Ljava/util/TreeMap$Entry;)V" } : Jvm.MethodName)) ∈ lw_all := lw_g (lw_at lw_m8 189 rfl) rfl
theorem q1950 : (Jvm.Cond.code ({ cls := "java/util/TreeMap", name := "rotateLeft", desc := "(Ljava/util/TreeMap$Entry;)V" } : Jvm.MethodName) prog_79_method_81_code (3 : Nat) (Option.none : Option Jvm.ClassFile.FieldType)) ∈ lw_all := lw_g (lw_at lw_m8 190 rfl) rfl
theorem q1951 : (Jvm.Cond.methodLink "java/util/TreeMap" (314 : Nat) ({ cls := "java/util/TreeMap", name := "rotateRight", desc := "(Ljava/util/TreeMap$Entry;)V" } : Jvm.MethodName)) ∈ lw_all := lw_g (lw_at lw_m8 191 rfl) rfl
theorem q1952 : (Jvm.Cond.privateMethod ({ cls := "java/util/TreeMap", name := "rotateRight", desc := "(Ljava/util/TreeMap$Entry;)V" } : Jvm.MethodName)) ∈ lw_tbl := lw_at lw_m8 192 rfl
theorem q1953 : (Jvm.Cond.instanceMethod ({ cls := "java/util/TreeMap", name := "rotateRight", desc := "(Ljava/util/TreeMap$Entry;)V" } : Jvm.MethodName)) ∈ lw_all := lw_g (lw_at lw_m8 193 rfl) rfl
theorem q1954 : (Jvm.Cond.code ({ cls := "java/util/TreeMap", name := "rotateRight", desc := "(Ljava/util/TreeMap$Entry;)V" } : Jvm.MethodName) prog_79_method_82_code (3 : Nat) (Option.none : Option Jvm.ClassFile.FieldType)) ∈ lw_all := lw_g (lw_at lw_m8 194 rfl) rfl
theorem q1955 : (Jvm.Cond.methodLink "MasterTree$Master" (152 : Nat) ({ cls := "MasterTree$Entry", name := "does", desc := "()V" } : Jvm.MethodName)) ∈ lw_all := lw_g (lw_at lw_m8 195 rfl) rfl
theorem q1956 : (Jvm.Cond.instanceMethod ({ cls := "MasterTree$Entry", name := "does", desc := "()V" } : Jvm.MethodName)) ∈ lw_all := lw_g (lw_at lw_m8 196 rfl) rfl
theorem q1957 : (Jvm.Cond.selects "MasterTree$Entry" ({ cls := "MasterTree$Entry", name := "does", desc := "()V" } : Jvm.MethodName) ({ cls := "MasterTree$Entry", name := "does", desc := "()V" } : Jvm.MethodName)) ∈ lw_all := lw_g (lw_at lw_m8 197 rfl) rfl
theorem q1958 : (Jvm.Cond.code ({ cls := "MasterTree$Entry", name := "does", desc := "()V" } : Jvm.MethodName) prog_7_method_7_code (3 : Nat) (Option.none : Option Jvm.ClassFile.FieldType)) ∈ lw_all := lw_g (lw_at lw_m8 198 rfl) rfl
theorem q1959 : (Jvm.Cond.methodLink "MasterTree$Entry" (95 : Nat) ({ cls := "java/util/TreeMap", name := "clear", desc := "()V" } : Jvm.MethodName)) ∈ lw_all := lw_g (lw_at lw_m8 199 rfl) rfl
theorem q1960 : (Jvm.Cond.instanceMethod ({ cls := "java/util/TreeMap", name := "clear", desc := "()V" } : Jvm.MethodName)) ∈ lw_all := lw_g (lw_at lw_m8 200 rfl) rfl
theorem q1961 : (Jvm.Cond.selects "java/util/TreeMap" ({ cls := "java/util/TreeMap", name := "clear", desc := "()V" } : Jvm.MethodName) ({ cls := "java/util/TreeMap", name := "clear", desc := "()V" } : Jvm.MethodName)) ∈ lw_all := lw_g (lw_at lw_m8 201 rfl) rfl
theorem q1962 : (Jvm.Cond.code ({ cls := "java/util/TreeMap", name := "clear", desc := "()V" } : Jvm.MethodName) prog_79_method_35_code (1 : Nat) (Option.none : Option Jvm.ClassFile.FieldType)) ∈ lw_all := lw_g (lw_at lw_m8 202 rfl) rfl
theorem q1963 : (Jvm.Cond.interfaceEntry "MasterTree$Entry" (96 : Nat)) ∈ lw_tbl := lw_at lw_m8 203 rfl
theorem q1964 : (Jvm.Cond.methodLink "MasterTree$Entry" (96 : Nat) ({ cls := "java/util/List", name := "iterator", desc := "()Ljava/util/Iterator;" } : Jvm.MethodName)) ∈ lw_all := lw_g (lw_at lw_m8 204 rfl) rfl
theorem q1965 : (Jvm.Cond.interfaceEntry "MasterTree$Entry" (100 : Nat)) ∈ lw_tbl := lw_at lw_m8 205 rfl
theorem q1966 : (Jvm.Cond.methodLink "MasterTree$Entry" (100 : Nat) ({ cls := "java/util/Iterator", name := "hasNext", desc := "()Z" } : Jvm.MethodName)) ∈ lw_all := lw_g (lw_at lw_m8 206 rfl) rfl
theorem q1967 : (Jvm.Cond.interfaceEntry "MasterTree$Entry" (106 : Nat)) ∈ lw_tbl := lw_at lw_m8 207 rfl
theorem q1968 : (Jvm.Cond.methodLink "MasterTree$Entry" (106 : Nat) ({ cls := "java/util/Iterator", name := "next", desc := "()Ljava/lang/Object;" } : Jvm.MethodName)) ∈ lw_all := lw_g (lw_at lw_m8 208 rfl) rfl
theorem q1969 : (Jvm.Cond.classLink "MasterTree$Entry" (110 : Nat) "MasterTree$Change") ∈ lw_all := lw_g (lw_at lw_m8 209 rfl) rfl
theorem q1970 : (Jvm.Cond.methodLink "MasterTree$Entry" (116 : Nat) ({ cls := "MasterTree$Kind", name := "does", desc := "(LMasterTree$Change;LMasterTree$Entry;)V" } : Jvm.MethodName)) ∈ lw_all := lw_g (lw_at lw_m8 210 rfl) rfl
theorem q1971 : (Jvm.Cond.declares ({ cls := "MasterTree$Kind", name := "does", desc := "(LMasterTree$Change;LMasterTree$Entry;)V" } : Jvm.MethodName)) ∈ lw_tbl := lw_at lw_m8 211 rfl
theorem q1972 : (Jvm.Cond.sameMethod "MasterTree$Kind" "MasterTree$Kind" "does" "(LMasterTree$Change;LMasterTree$Entry;)V") ∈ lw_all := lw_g (lw_at lw_m8 212 rfl) rfl
theorem q1973 : (Jvm.Cond.selects "MasterTree$Kind$1" ({ cls := "MasterTree$Kind", name := "does", desc := "(LMasterTree$Change;LMasterTree$Entry;)V" } : Jvm.MethodName) ({ cls := "MasterTree$Kind$1", name := "does", desc := "(LMasterTree$Change;LMasterTree$Entry;)V" } : Jvm.MethodName)) ∈ lw_all := lw_g (lw_at lw_m8 213 rfl) rfl
theorem q1974 : (Jvm.Cond.instanceMethod ({ cls := "MasterTree$Kind$1", name := "does", desc := "(LMasterTree$Change;LMasterTree$Entry;)V" } : Jvm.MethodName)) ∈ lw_all := lw_g (lw_at lw_m8 214 rfl) rfl
theorem q1975 : (Jvm.Cond.code ({ cls := "MasterTree$Kind$1", name := "does", desc := "(LMasterTree$Change;LMasterTree$Entry;)V" } : Jvm.MethodName) prog_11_method_2_code (5 : Nat) (Option.none : Option Jvm.ClassFile.FieldType)) ∈ lw_all := lw_g (lw_at lw_m8 215 rfl) rfl
theorem q1976 : (Jvm.Cond.interfaceEntry "MasterTree$Kind$1" (26 : Nat)) ∈ lw_tbl := lw_at lw_m8 216 rfl
theorem q1977 : (Jvm.Cond.methodLink "MasterTree$Kind$1" (26 : Nat) ({ cls := "java/util/List", name := "iterator", desc := "()Ljava/util/Iterator;" } : Jvm.MethodName)) ∈ lw_all := lw_g (lw_at lw_m8 217 rfl) rfl
theorem q1978 : (Jvm.Cond.interfaceEntry "MasterTree$Kind$1" (32 : Nat)) ∈ lw_tbl := lw_at lw_m8 218 rfl
theorem q1979 : (Jvm.Cond.methodLink "MasterTree$Kind$1" (32 : Nat) ({ cls := "java/util/Iterator", name := "hasNext", desc := "()Z" } : Jvm.MethodName)) ∈ lw_all := lw_g (lw_at lw_m8 219 rfl) rfl
theorem q1980 : (Jvm.Cond.interfaceEntry "MasterTree$Kind$1" (38 : Nat)) ∈ lw_tbl := lw_at lw_m8 220 rfl
theorem q1981 : (Jvm.Cond.methodLink "MasterTree$Kind$1" (38 : Nat) ({ cls := "java/util/Iterator", name := "next", desc := "()Ljava/lang/Object;" } : Jvm.MethodName)) ∈ lw_all := lw_g (lw_at lw_m8 221 rfl) rfl
theorem q1982 : (Jvm.Cond.classLink "MasterTree$Kind$1" (42 : Nat) "[I") ∈ lw_all := lw_g (lw_at lw_m8 222 rfl) rfl
theorem q1983 : (Jvm.Cond.methodLink "MasterTree$Kind$1" (44 : Nat) ({ cls := "MasterTree$Entry", name := "comes", desc := "(II)V" } : Jvm.MethodName)) ∈ lw_all := lw_g (lw_at lw_m8 223 rfl) rfl
theorem q1984 : (Jvm.Cond.instanceMethod ({ cls := "MasterTree$Entry", name := "comes", desc := "(II)V" } : Jvm.MethodName)) ∈ lw_all := lw_g (lw_at lw_m8 224 rfl) rfl
theorem q1985 : (Jvm.Cond.selects "MasterTree$Entry" ({ cls := "MasterTree$Entry", name := "comes", desc := "(II)V" } : Jvm.MethodName) ({ cls := "MasterTree$Entry", name := "comes", desc := "(II)V" } : Jvm.MethodName)) ∈ lw_all := lw_g (lw_at lw_m8 225 rfl) rfl
theorem q1986 : (Jvm.Cond.code ({ cls := "MasterTree$Entry", name := "comes", desc := "(II)V" } : Jvm.MethodName) prog_7_method_5_code (3 : Nat) (Option.none : Option Jvm.ClassFile.FieldType)) ∈ lw_all := lw_g (lw_at lw_m8 226 rfl) rfl
theorem q1987 : (Jvm.Cond.methodLink "MasterTree$Entry" (71 : Nat) ({ cls := "MasterTree$Entry", name := "valuesOf", desc := "(I)Ljava/util/Map;" } : Jvm.MethodName)) ∈ lw_all := lw_g (lw_at lw_m8 227 rfl) rfl
theorem q1988 : (Jvm.Cond.instanceMethod ({ cls := "MasterTree$Entry", name := "valuesOf", desc := "(I)Ljava/util/Map;" } : Jvm.MethodName)) ∈ lw_all := lw_g (lw_at lw_m8 228 rfl) rfl
theorem q1989 : (Jvm.Cond.selects "MasterTree$Entry" ({ cls := "MasterTree$Entry", name := "valuesOf", desc := "(I)Ljava/util/Map;" } : Jvm.MethodName) ({ cls := "MasterTree$Entry", name := "valuesOf", desc := "(I)Ljava/util/Map;" } : Jvm.MethodName)) ∈ lw_all := lw_g (lw_at lw_m8 229 rfl) rfl
theorem q1990 : (Jvm.Cond.code ({ cls := "MasterTree$Entry", name := "valuesOf", desc := "(I)Ljava/util/Map;" } : Jvm.MethodName) prog_7_method_4_code (2 : Nat) (Option.some (Jvm.ClassFile.FieldType.object "java/util/Map"))) ∈ lw_all := lw_g (lw_at lw_m8 230 rfl) rfl
theorem q1991 : (Jvm.Cond.methodLink "MasterTree$Entry" (64 : Nat) ({ cls := "java/util/TreeMap", name := "subMap", desc := "(Ljava/lang/Object;Ljava/lang/Object;)Ljava/util/SortedMap;" } : Jvm.MethodName)) ∈ lw_all := lw_g (lw_at lw_m8 231 rfl) rfl
theorem q1992 : (Jvm.Cond.instanceMethod ({ cls := "java/util/TreeMap", name := "subMap", desc := "(Ljava/lang/Object;Ljava/lang/Object;)Ljava/util/SortedMap;" } : Jvm.MethodName)) ∈ lw_all := lw_g (lw_at lw_m8 232 rfl) rfl
theorem q1993 : (Jvm.Cond.selects "java/util/TreeMap" ({ cls := "java/util/TreeMap", name := "subMap", desc := "(Ljava/lang/Object;Ljava/lang/Object;)Ljava/util/SortedMap;" } : Jvm.MethodName) ({ cls := "java/util/TreeMap", name := "subMap", desc := "(Ljava/lang/Object;Ljava/lang/Object;)Ljava/util/SortedMap;" } : Jvm.MethodName)) ∈ lw_all := lw_g (lw_at lw_m8 233 rfl) rfl
theorem q1994 : (Jvm.Cond.code ({ cls := "java/util/TreeMap", name := "subMap", desc := "(Ljava/lang/Object;Ljava/lang/Object;)Ljava/util/SortedMap;" } : Jvm.MethodName) prog_79_method_58_code (3 : Nat) (Option.some (Jvm.ClassFile.FieldType.object "java/util/SortedMap"))) ∈ lw_all := lw_g (lw_at lw_m8 234 rfl) rfl
theorem q1995 : (Jvm.Cond.methodLink "java/util/TreeMap" (253 : Nat) ({ cls := "java/util/TreeMap", name := "subMap", desc := "(Ljava/lang/Object;ZLjava/lang/Object;Z)Ljava/util/NavigableMap;" } : Jvm.MethodName)) ∈ lw_all := lw_g (lw_at lw_m8 235 rfl) rfl
theorem q1996 : (Jvm.Cond.instanceMethod ({ cls := "java/util/TreeMap", name := "subMap", desc := "(Ljava/lang/Object;ZLjava/lang/Object;Z)Ljava/util/NavigableMap;" } : Jvm.MethodName)) ∈ lw_all := lw_g (lw_at lw_m8 236 rfl) rfl
theorem q1997 : (Jvm.Cond.selects "java/util/TreeMap" ({ cls := "java/util/TreeMap", name := "subMap", desc := "(Ljava/lang/Object;ZLjava/lang/Object;Z)Ljava/util/NavigableMap;" } : Jvm.MethodName) ({ cls := "java/util/TreeMap", name := "subMap", desc := "(Ljava/lang/Object;ZLjava/lang/Object;Z)Ljava/util/NavigableMap;" } : Jvm.MethodName)) ∈ lw_all := lw_g (lw_at lw_m8 237 rfl) rfl
theorem q1998 : (Jvm.Cond.code ({ cls := "java/util/TreeMap", name := "subMap", desc := "(Ljava/lang/Object;ZLjava/lang/Object;Z)Ljava/util/NavigableMap;" } : Jvm.MethodName) prog_79_method_55_code (5 : Nat) (Option.some (Jvm.ClassFile.FieldType.object "java/util/NavigableMap"))) ∈ lw_all := lw_g (lw_at lw_m8 238 rfl) rfl
theorem q1999 : (Jvm.Cond.classLink "java/util/TreeMap" (250 : Nat) "java/util/TreeMap$AscendingSubMap") ∈ lw_all := lw_g (lw_at lw_m8 239 rfl) rfl
theorem q2000 : (Jvm.Cond.instantiable "java/util/TreeMap$AscendingSubMap" (12 : Nat)) ∈ lw_all := lw_g (lw_at lw_m9 0 rfl) rfl
theorem q2001 : (Jvm.Cond.methodLink "java/util/TreeMap" (252 : Nat) ({ cls := "java/util/TreeMap$AscendingSubMap", name := "<init>", desc := "(Ljava/util/TreeMap;ZLjava/lang/Object;ZZLjava/lang/Object;Z)V" } : Jvm.MethodName)) ∈ lw_all := lw_g (lw_at lw_m9 1 rfl) rfl
theorem q2002 : (Jvm.Cond.instanceMethod ({ cls := "java/util/TreeMap$AscendingSubMap", name := "<init>", desc := "(Ljava/util/TreeMap;ZLjava/lang/Object;ZZLjava/lang/Object;Z)V" } : Jvm.MethodName)) ∈ lw_all := lw_g (lw_at lw_m9 2 rfl) rfl
theorem q2003 : (Jvm.Cond.code ({ cls := "java/util/TreeMap$AscendingSubMap", name := "<init>", desc := "(Ljava/util/TreeMap;ZLjava/lang/Object;ZZLjava/lang/Object;Z)V" } : Jvm.MethodName) prog_80_method_1_code (8 : Nat) (Option.none : Option Jvm.ClassFile.FieldType)) ∈ lw_all := lw_g (lw_at lw_m9 3 rfl) rfl
theorem q2004 : (Jvm.Cond.methodLink "java/util/TreeMap$AscendingSubMap" (1 : Nat) ({ cls := "java/util/TreeMap$NavigableSubMap", name := "<init>", desc := "(Ljava/util/TreeMap;ZLjava/lang/Object;ZZLjava/lang/Object;Z)V" } : Jvm.MethodName)) ∈ lw_all := lw_g (lw_at lw_m9 4 rfl) rfl
theorem q2005 : (Jvm.Cond.instanceMethod ({ cls := "java/util/TreeMap$NavigableSubMap", name := "<init>", desc := "(Ljava/util/TreeMap;ZLjava/lang/Object;ZZLjava/lang/Object;Z)V" } : Jvm.MethodName)) ∈ lw_all := lw_g (lw_at lw_m9 5 rfl) rfl
theorem q2006 : (Jvm.Cond.code ({ cls := "java/util/TreeMap$NavigableSubMap", name := "<init>", desc := "(Ljava/util/TreeMap;ZLjava/lang/Object;ZZLjava/lang/Object;Z)V" } : Jvm.MethodName) prog_87_method_1_code (8 : Nat) (Option.none : Option Jvm.ClassFile.FieldType)) ∈ lw_all := lw_g (lw_at lw_m9 6 rfl) rfl
theorem q2007 : (Jvm.Cond.methodLink "java/util/TreeMap$NavigableSubMap" (1 : Nat) ({ cls := "java/util/AbstractMap", name := "<init>", desc := "()V" } : Jvm.MethodName)) ∈ lw_all := lw_g (lw_at lw_m9 7 rfl) rfl
theorem q2008 : (Jvm.Cond.classLink "java/util/TreeMap$NavigableSubMap" (13 : Nat) "java/lang/IllegalArgumentException") ∈ lw_all := lw_g (lw_at lw_m9 8 rfl) rfl
theorem q2009 : (Jvm.Cond.stringRef "java/util/TreeMap$NavigableSubMap" (15 : Nat) "fromKey > toKey") ∈ lw_tbl := lw_at lw_m9 9 rfl
theorem q2010 : (Jvm.Cond.methodLink "java/util/TreeMap$NavigableSubMap" (17 : Nat) ({ cls := "java/lang/IllegalArgumentException", name := "<init>", desc := "(Ljava/lang/String;)V" } : Jvm.MethodName)) ∈ lw_all := lw_g (lw_at lw_m9 10 rfl) rfl
theorem q2011 : (Jvm.Cond.fieldLink "java/util/TreeMap$NavigableSubMap$SubMapIterator" (13 : Nat) "java/util/TreeMap$NavigableSubMap" "m" "Ljava/util/TreeMap;") ∈ lw_all := lw_g (lw_at lw_m9 11 rfl) rfl
theorem q2012 : (Jvm.Cond.fieldLink "java/util/TreeMap$NavigableSubMap" (20 : Nat) "java/util/TreeMap$NavigableSubMap" "m" "Ljava/util/TreeMap;") ∈ lw_all := lw_g (lw_at lw_m9 12 rfl) rfl
theorem q2013 : (Jvm.Cond.fieldLink "java/util/TreeMap$NavigableSubMap$EntrySetView" (26 : Nat) "java/util/TreeMap$NavigableSubMap" "m" "Ljava/util/TreeMap;") ∈ lw_all := lw_g (lw_at lw_m9 13 rfl) rfl
theorem q2014 : (Jvm.Cond.fieldLink "java/util/TreeMap$NavigableSubMap" (30 : Nat) "java/util/TreeMap$NavigableSubMap" "lo" "Ljava/lang/Object;") ∈ lw_all := lw_g (lw_at lw_m9 14 rfl) rfl
theorem q2015 : (Jvm.Cond.fieldLink "java/util/TreeMap$NavigableSubMap" (40 : Nat) "java/util/TreeMap$NavigableSubMap" "hi" "Ljava/lang/Object;") ∈ lw_all := lw_g (lw_at lw_m9 15 rfl) rfl
theorem q2016 : (Jvm.Cond.fieldLink "java/util/TreeMap$NavigableSubMap" (26 : Nat) "java/util/TreeMap$NavigableSubMap" "fromStart" "Z") ∈ lw_all := lw_g (lw_at lw_m9 16 rfl) rfl
theorem q2017 : (Jvm.Cond.fieldLink "java/util/TreeMap$NavigableSubMap$EntrySetView" (17 : Nat) "java/util/TreeMap$NavigableSubMap" "fromStart" "Z") ∈ lw_all := lw_g (lw_at lw_m9 17 rfl) rfl
theorem q2018 : (Jvm.Cond.fieldLink "java/util/TreeMap$NavigableSubMap" (37 : Nat) "java/util/TreeMap$NavigableSubMap" "toEnd" "Z") ∈ lw_all := lw_g (lw_at lw_m9 18 rfl) rfl
theorem q2019 : (Jvm.Cond.fieldLink "java/util/TreeMap$NavigableSubMap$EntrySetView" (23 : Nat) "java/util/TreeMap$NavigableSubMap" "toEnd" "Z") ∈ lw_all := lw_g (lw_at lw_m9 19 rfl) rfl
theorem q2020 : (Jvm.Cond.fieldLink "java/util/TreeMap$NavigableSubMap" (34 : Nat) "java/util/TreeMap$NavigableSubMap" "loInclusive" "Z") ∈ lw_all := lw_g (lw_at lw_m9 20 rfl) rfl
theorem q2021 : (Jvm.Cond.fieldLink "java/util/TreeMap$NavigableSubMap" (43 : Nat) "java/util/TreeMap$NavigableSubMap" "hiInclusive" "Z") ∈ lw_all := lw_g (lw_at lw_m9 21 rfl) rfl
theorem q2022 : (Jvm.Cond.fieldLink "java/util/TreeMap$AscendingSubMap" (81 : Nat) "java/util/TreeMap$AscendingSubMap" "entrySetView" "Ljava/util/TreeMap$NavigableSubMap$EntrySetView;") ∈ lw_all := lw_g (lw_at lw_m9 22 rfl) rfl
theorem q2023 : (Jvm.Cond.sameField "java/util/TreeMap$AscendingSubMap" "java/util/TreeMap$NavigableSubMap" "entrySetView" "Ljava/util/TreeMap$NavigableSubMap$EntrySetView;") ∈ lw_all := lw_g (lw_at lw_m9 23 rfl) rfl
theorem q2024 : (Jvm.Cond.fieldLink "java/util/TreeMap$NavigableSubMap" (181 : Nat) "java/util/TreeMap$NavigableSubMap" "navigableKeySetView" "Ljava/util/TreeMap$KeySet;") ∈ lw_all := lw_g (lw_at lw_m9 24 rfl) rfl
theorem q2025 : (Jvm.Cond.laysFinal "java/util/TreeMap$AscendingSubMap" "java/util/TreeMap$NavigableSubMap" "m" "Ljava/util/TreeMap;") ∈ lw_all := lw_g (lw_at lw_m9 25 rfl) rfl
theorem q2026 : (Jvm.Cond.soleField "java/util/TreeMap$NavigableSubMap" "m") ∈ lw_all := lw_g (lw_at lw_m9 26 rfl) rfl
theorem q2027 : (Jvm.Cond.laysFinal "java/util/TreeMap$AscendingSubMap" "java/util/TreeMap$NavigableSubMap" "lo" "Ljava/lang/Object;") ∈ lw_all := lw_g (lw_at lw_m9 27 rfl) rfl
theorem q2028 : (Jvm.Cond.soleField "java/util/TreeMap$NavigableSubMap" "lo") ∈ lw_all := lw_g (lw_at lw_m9 28 rfl) rfl
theorem q2029 : (Jvm.Cond.laysFinal "java/util/TreeMap$AscendingSubMap" "java/util/TreeMap$NavigableSubMap" "hi" "Ljava/lang/Object;") ∈ lw_all := lw_g (lw_at lw_m9 29 rfl) rfl
theorem q2030 : (Jvm.Cond.soleField "java/util/TreeMap$NavigableSubMap" "hi") ∈ lw_all := lw_g (lw_at lw_m9 30 rfl) rfl
theorem q2031 : (Jvm.Cond.laysFinal "java/util/TreeMap$AscendingSubMap" "java/util/TreeMap$NavigableSubMap" "fromStart" "Z") ∈ lw_all := lw_g (lw_at lw_m9 31 rfl) rfl
theorem q2032 : (Jvm.Cond.soleField "java/util/TreeMap$NavigableSubMap" "fromStart") ∈ lw_all := lw_g (lw_at lw_m9 32 rfl) rfl
theorem q2033 : (Jvm.Cond.laysFinal "java/util/TreeMap$AscendingSubMap" "java/util/TreeMap$NavigableSubMap" "toEnd" "Z") ∈ lw_all := lw_g (lw_at lw_m9 33 rfl) rfl
theorem q2034 : (Jvm.Cond.soleField "java/util/TreeMap$NavigableSubMap" "toEnd") ∈ lw_all := lw_g (lw_at lw_m9 34 rfl) rfl
theorem q2035 : (Jvm.Cond.laysFinal "java/util/TreeMap$AscendingSubMap" "java/util/TreeMap$NavigableSubMap" "loInclusive" "Z") ∈ lw_all := lw_g (lw_at lw_m9 35 rfl) rfl
theorem q2036 : (Jvm.Cond.soleField "java/util/TreeMap$NavigableSubMap" "loInclusive") ∈ lw_all := lw_g (lw_at lw_m9 36 rfl) rfl
theorem q2037 : (Jvm.Cond.laysFinal "java/util/TreeMap$AscendingSubMap" "java/util/TreeMap$NavigableSubMap" "hiInclusive" "Z") ∈ lw_all := lw_g (lw_at lw_m9 37 rfl) rfl
theorem q2038 : (Jvm.Cond.soleField "java/util/TreeMap$NavigableSubMap" "hiInclusive") ∈ lw_all := lw_g (lw_at lw_m9 38 rfl) rfl
theorem q2039 : (Jvm.Cond.lays "java/util/TreeMap$AscendingSubMap" "java/util/TreeMap$NavigableSubMap" "descendingMapView" "Ljava/util/NavigableMap;") ∈ lw_all := lw_g (lw_at lw_m9 39 rfl) rfl
theorem q2040 : (Jvm.Cond.soleField "java/util/TreeMap$NavigableSubMap" "descendingMapView") ∈ lw_all := lw_g (lw_at lw_m9 40 rfl) rfl
theorem q2041 : (Jvm.Cond.lays "java/util/TreeMap$AscendingSubMap" "java/util/TreeMap$NavigableSubMap" "entrySetView" "Ljava/util/TreeMap$NavigableSubMap$EntrySetView;") ∈ lw_all := lw_g (lw_at lw_m9 41 rfl) rfl
theorem q2042 : (Jvm.Cond.soleField "java/util/TreeMap$NavigableSubMap" "entrySetView") ∈ lw_all := lw_g (lw_at lw_m9 42 rfl) rfl
theorem q2043 : (Jvm.Cond.lays "java/util/TreeMap$AscendingSubMap" "java/util/TreeMap$NavigableSubMap" "navigableKeySetView" "Ljava/util/TreeMap$KeySet;") ∈ lw_all := lw_g (lw_at lw_m9 43 rfl) rfl
theorem q2044 : (Jvm.Cond.soleField "java/util/TreeMap$NavigableSubMap" "navigableKeySetView") ∈ lw_all := lw_g (lw_at lw_m9 44 rfl) rfl
theorem q2045 : (Jvm.Cond.lays "java/util/TreeMap$AscendingSubMap" "java/util/AbstractMap" "keySet" "Ljava/util/Set;") ∈ lw_all := lw_g (lw_at lw_m9 45 rfl) rfl
theorem q2046 : (Jvm.Cond.lays "java/util/TreeMap$AscendingSubMap" "java/util/AbstractMap" "values" "Ljava/util/Collection;") ∈ lw_all := lw_g (lw_at lw_m9 46 rfl) rfl
theorem q2047 : (Jvm.Cond.superclass "java/util/TreeMap$AscendingSubMap" "java/util/TreeMap$NavigableSubMap") ∈ lw_all := lw_g (lw_at lw_m9 47 rfl) rfl
theorem q2048 : (Jvm.Cond.interfaceEntry "MasterTree$Entry" (75 : Nat)) ∈ lw_tbl := lw_at lw_m9 48 rfl
theorem q2049 : (Jvm.Cond.methodLink "MasterTree$Entry" (75 : Nat) ({ cls := "java/util/Map", name := "clear", desc := "()V" } : Jvm.MethodName)) ∈ lw_all := lw_g (lw_at lw_m9 49 rfl) rfl
theorem q2050 : (Jvm.Cond.interfaceMethod "java/util/Map" "java/util/Map" "clear" "()V") ∈ lw_tbl := lw_at lw_m9 50 rfl
theorem q2051 : (Jvm.Cond.declares ({ cls := "java/util/Map", name := "clear", desc := "()V" } : Jvm.MethodName)) ∈ lw_tbl := lw_at lw_m9 51 rfl
theorem q2052 : (Jvm.Cond.castable "java/util/TreeMap" "java/util/Map") ∈ lw_tbl := lw_at lw_m9 52 rfl
theorem q2053 : (Jvm.Cond.selects "java/util/TreeMap" ({ cls := "java/util/Map", name := "clear", desc := "()V" } : Jvm.MethodName) ({ cls := "java/util/TreeMap", name := "clear", desc := "()V" } : Jvm.MethodName)) ∈ lw_all := lw_g (lw_at lw_m9 53 rfl) rfl
theorem q2054 : (Jvm.Cond.unhidden "java/util/TreeMap" "clear" "()V") ∈ lw_tbl := lw_at lw_m9 54 rfl
theorem q2055 : (Jvm.Cond.publicMethod ({ cls := "java/util/TreeMap", name := "clear", desc := "()V" } : Jvm.MethodName)) ∈ lw_tbl := lw_at lw_m9 55 rfl
theorem q2056 : (Jvm.Cond.castable "java/util/TreeMap$AscendingSubMap" "java/util/Map") ∈ lw_tbl := lw_at lw_m9 56 rfl
theorem q2057 : (Jvm.Cond.selects "java/util/TreeMap$AscendingSubMap" ({ cls := "java/util/Map", name := "clear", desc := "()V" } : Jvm.MethodName) ({ cls := "java/util/AbstractMap", name := "clear", desc := "()V" } : Jvm.MethodName)) ∈ lw_all := lw_g (lw_at lw_m9 57 rfl) rfl
theorem q2058 : (Jvm.Cond.unhidden "java/util/TreeMap$AscendingSubMap" "clear" "()V") ∈ lw_tbl := lw_at lw_m9 58 rfl
theorem q2059 : (Jvm.Cond.instanceMethod ({ cls := "java/util/AbstractMap", name := "clear", desc := "()V" } : Jvm.MethodName)) ∈ lw_all := lw_g (lw_at lw_m9 59 rfl) rfl
theorem q2060 : (Jvm.Cond.publicMethod ({ cls := "java/util/AbstractMap", name := "clear", desc := "()V" } : Jvm.MethodName)) ∈ lw_tbl := lw_at lw_m9 60 rfl
theorem q2061 : (Jvm.Cond.code ({ cls := "java/util/AbstractMap", name := "clear", desc := "()V" } : Jvm.MethodName) prog_55_method_10_code (1 : Nat) (Option.none : Option Jvm.ClassFile.FieldType)) ∈ lw_all := lw_g (lw_at lw_m9 61 rfl) rfl
theorem q2062 : (Jvm.Cond.methodLink "java/util/AbstractMap" (7 : Nat) ({ cls := "java/util/AbstractMap", name := "entrySet", desc := "()Ljava/util/Set;" } : Jvm.MethodName)) ∈ lw_all := lw_g (lw_at lw_m9 62 rfl) rfl
theorem q2063 : (Jvm.Cond.declares ({ cls := "java/util/AbstractMap", name := "entrySet", desc := "()Ljava/util/Set;" } : Jvm.MethodName)) ∈ lw_tbl := lw_at lw_m9 63 rfl
theorem q2064 : (Jvm.Cond.sameMethod "java/util/AbstractMap" "java/util/AbstractMap" "entrySet" "()Ljava/util/Set;") ∈ lw_all := lw_g (lw_at lw_m9 64 rfl) rfl
theorem q2065 : (Jvm.Cond.selects "java/util/TreeMap" ({ cls := "java/util/AbstractMap", name := "entrySet", desc := "()Ljava/util/Set;" } : Jvm.MethodName) ({ cls := "java/util/TreeMap", name := "entrySet", desc := "()Ljava/util/Set;" } : Jvm.MethodName)) ∈ lw_all := lw_g (lw_at lw_m9 65 rfl) rfl
theorem q2066 : (Jvm.Cond.selects "java/util/TreeMap$AscendingSubMap" ({ cls := "java/util/AbstractMap", name := "entrySet", desc := "()Ljava/util/Set;" } : Jvm.MethodName) ({ cls := "java/util/TreeMap$AscendingSubMap", name := "entrySet", desc := "()Ljava/util/Set;" } : Jvm.MethodName)) ∈ lw_all := lw_g (lw_at lw_m9 66 rfl) rfl
theorem q2067 : (Jvm.Cond.instanceMethod ({ cls := "java/util/TreeMap$AscendingSubMap", name := "entrySet", desc := "()Ljava/util/Set;" } : Jvm.MethodName)) ∈ lw_all := lw_g (lw_at lw_m9 67 rfl) rfl
theorem q2068 : (Jvm.Cond.code ({ cls := "java/util/TreeMap$AscendingSubMap", name := "entrySet", desc := "()Ljava/util/Set;" } : Jvm.MethodName) prog_80_method_10_code (2 : Nat) (Option.some (Jvm.ClassFile.FieldType.object "java/util/Set"))) ∈ lw_all := lw_g (lw_at lw_m9 68 rfl) rfl
theorem q2069 : (Jvm.Cond.classLink "java/util/TreeMap$AscendingSubMap" (85 : Nat) "java/util/TreeMap$AscendingSubMap$AscendingEntrySetView") ∈ lw_all := lw_g (lw_at lw_m9 69 rfl) rfl
theorem q2070 : (Jvm.Cond.instantiable "java/util/TreeMap$AscendingSubMap$AscendingEntrySetView" (4 : Nat)) ∈ lw_all := lw_g (lw_at lw_m9 70 rfl) rfl
theorem q2071 : (Jvm.Cond.methodLink "java/util/TreeMap$AscendingSubMap" (87 : Nat) ({ cls := "java/util/TreeMap$AscendingSubMap$AscendingEntrySetView", name := "<init>", desc := "(Ljava/util/TreeMap$AscendingSubMap;)V" } : Jvm.MethodName)) ∈ lw_all := lw_g (lw_at lw_m9 71 rfl) rfl
theorem q2072 : (Jvm.Cond.instanceMethod ({ cls := "java/util/TreeMap$AscendingSubMap$AscendingEntrySetView", name := "<init>", desc := "(Ljava/util/TreeMap$AscendingSubMap;)V" } : Jvm.MethodName)) ∈ lw_all := lw_g (lw_at lw_m9 72 rfl) rfl
theorem q2073 : (Jvm.Cond.code ({ cls := "java/util/TreeMap$AscendingSubMap$AscendingEntrySetView", name := "<init>", desc := "(Ljava/util/TreeMap$AscendingSubMap;)V" } : Jvm.MethodName) prog_81_method_1_code (2 : Nat) (Option.none : Option Jvm.ClassFile.FieldType)) ∈ lw_all := lw_g (lw_at lw_m9 73 rfl) rfl
theorem q2074 : (Jvm.Cond.methodLink "java/util/TreeMap$AscendingSubMap$AscendingEntrySetView" (7 : Nat) ({ cls := "java/util/TreeMap$NavigableSubMap$EntrySetView", name := "<init>", desc := "(Ljava/util/TreeMap$NavigableSubMap;)V" } : Jvm.MethodName)) ∈ lw_all := lw_g (lw_at lw_m9 74 rfl) rfl
theorem q2075 : (Jvm.Cond.instanceMethod ({ cls := "java/util/TreeMap$NavigableSubMap$EntrySetView", name := "<init>", desc := "(Ljava/util/TreeMap$NavigableSubMap;)V" } : Jvm.MethodName)) ∈ lw_all := lw_g (lw_at lw_m9 75 rfl) rfl
theorem q2076 : (Jvm.Cond.code ({ cls := "java/util/TreeMap$NavigableSubMap$EntrySetView", name := "<init>", desc := "(Ljava/util/TreeMap$NavigableSubMap;)V" } : Jvm.MethodName) prog_88_method_1_code (2 : Nat) (Option.none : Option Jvm.ClassFile.FieldType)) ∈ lw_all := lw_g (lw_at lw_m9 76 rfl) rfl
theorem q2077 : (Jvm.Cond.methodLink "java/util/TreeMap$NavigableSubMap$EntrySetView" (7 : Nat) ({ cls := "java/util/AbstractSet", name := "<init>", desc := "()V" } : Jvm.MethodName)) ∈ lw_all := lw_g (lw_at lw_m9 77 rfl) rfl
theorem q2078 : (Jvm.Cond.fieldLink "java/util/TreeMap$AscendingSubMap$AscendingEntrySetView" (1 : Nat) "java/util/TreeMap$AscendingSubMap$AscendingEntrySetView" "this$0" "Ljava/util/TreeMap$AscendingSubMap;") ∈ lw_all := lw_g (lw_at lw_m9 78 rfl) rfl
theorem q2079 : (Jvm.Cond.fieldLink "java/util/TreeMap$NavigableSubMap$EntrySetView" (13 : Nat) "java/util/TreeMap$NavigableSubMap$EntrySetView" "size" "I") ∈ lw_all := lw_g (lw_at lw_m9 79 rfl) rfl
theorem q2080 : (Jvm.Cond.fieldLink "java/util/TreeMap$NavigableSubMap$EntrySetView" (35 : Nat) "java/util/TreeMap$NavigableSubMap$EntrySetView" "sizeModCount" "I") ∈ lw_all := lw_g (lw_at lw_m9 80 rfl) rfl
theorem q2081 : (Jvm.Cond.fieldLink "java/util/TreeMap$NavigableSubMap$EntrySetView" (1 : Nat) "java/util/TreeMap$NavigableSubMap$EntrySetView" "this$0" "Ljava/util/TreeMap$NavigableSubMap;") ∈ lw_all := lw_g (lw_at lw_m9 81 rfl) rfl
theorem q2082 : (Jvm.Cond.laysFinal "java/util/TreeMap$AscendingSubMap$AscendingEntrySetView" "java/util/TreeMap$AscendingSubMap$AscendingEntrySetView" "this$0" "Ljava/util/TreeMap$AscendingSubMap;") ∈ lw_all := lw_g (lw_at lw_m9 82 rfl) rfl
theorem q2083 : (Jvm.Cond.soleField "java/util/TreeMap$AscendingSubMap$AscendingEntrySetView" "this$0") ∈ lw_all := lw_g (lw_at lw_m9 83 rfl) rfl
theorem q2084 : (Jvm.Cond.lays "java/util/TreeMap$AscendingSubMap$AscendingEntrySetView" "java/util/TreeMap$NavigableSubMap$EntrySetView" "size" "I") ∈ lw_all := lw_g (lw_at lw_m9 84 rfl) rfl
theorem q2085 : (Jvm.Cond.soleField "java/util/TreeMap$NavigableSubMap$EntrySetView" "size") ∈ lw_all := lw_g (lw_at lw_m9 85 rfl) rfl
theorem q2086 : (Jvm.Cond.lays "java/util/TreeMap$AscendingSubMap$AscendingEntrySetView" "java/util/TreeMap$NavigableSubMap$EntrySetView" "sizeModCount" "I") ∈ lw_all := lw_g (lw_at lw_m9 86 rfl) rfl
theorem q2087 : (Jvm.Cond.soleField "java/util/TreeMap$NavigableSubMap$EntrySetView" "sizeModCount") ∈ lw_all := lw_g (lw_at lw_m9 87 rfl) rfl
theorem q2088 : (Jvm.Cond.laysFinal "java/util/TreeMap$AscendingSubMap$AscendingEntrySetView" "java/util/TreeMap$NavigableSubMap$EntrySetView" "this$0" "Ljava/util/TreeMap$NavigableSubMap;") ∈ lw_all := lw_g (lw_at lw_m9 88 rfl) rfl
theorem q2089 : (Jvm.Cond.soleField "java/util/TreeMap$NavigableSubMap$EntrySetView" "this$0") ∈ lw_all := lw_g (lw_at lw_m9 89 rfl) rfl
theorem q2090 : (Jvm.Cond.superclass "java/util/TreeMap$AscendingSubMap$AscendingEntrySetView" "java/util/TreeMap$NavigableSubMap$EntrySetView") ∈ lw_all := lw_g (lw_at lw_m9 90 rfl) rfl
theorem q2091 : (Jvm.Cond.interfaceEntry "java/util/AbstractMap" (59 : Nat)) ∈ lw_tbl := lw_at lw_m9 91 rfl
theorem q2092 : (Jvm.Cond.methodLink "java/util/AbstractMap" (59 : Nat) ({ cls := "java/util/Set", name := "clear", desc := "()V" } : Jvm.MethodName)) ∈ lw_all := lw_g (lw_at lw_m9 92 rfl) rfl
theorem q2093 : (Jvm.Cond.interfaceMethod "java/util/Set" "java/util/Set" "clear" "()V") ∈ lw_tbl := lw_at lw_m9 93 rfl
theorem q2094 : (Jvm.Cond.declares ({ cls := "java/util/Set", name := "clear", desc := "()V" } : Jvm.MethodName)) ∈ lw_tbl := lw_at lw_m9 94 rfl
theorem q2095 : (Jvm.Cond.selects "java/util/TreeMap$AscendingSubMap$AscendingEntrySetView" ({ cls := "java/util/Set", name := "clear", desc := "()V" } : Jvm.MethodName) ({ cls := "java/util/AbstractCollection", name := "clear", desc := "()V" } : Jvm.MethodName)) ∈ lw_all := lw_g (lw_at lw_m9 95 rfl) rfl
theorem q2096 : (Jvm.Cond.unhidden "java/util/TreeMap$AscendingSubMap$AscendingEntrySetView" "clear" "()V") ∈ lw_tbl := lw_at lw_m9 96 rfl
theorem q2097 : (Jvm.Cond.instanceMethod ({ cls := "java/util/AbstractCollection", name := "clear", desc := "()V" } : Jvm.MethodName)) ∈ lw_all := lw_g (lw_at lw_m9 97 rfl) rfl
theorem q2098 : (Jvm.Cond.publicMethod ({ cls := "java/util/AbstractCollection", name := "clear", desc := "()V" } : Jvm.MethodName)) ∈ lw_tbl := lw_at lw_m9 98 rfl
theorem q2099 : (Jvm.Cond.code ({ cls := "java/util/AbstractCollection", name := "clear", desc := "()V" } : Jvm.MethodName) prog_53_method_15_code (2 : Nat) (Option.none : Option Jvm.ClassFile.FieldType)) ∈ lw_all := lw_g (lw_at lw_m9 99 rfl) rfl
theorem q2100 : (Jvm.Cond.methodLink "java/util/AbstractCollection" (13 : Nat) ({ cls := "java/util/AbstractCollection", name := "iterator", desc := "()Ljava/util/Iterator;" } : Jvm.MethodName)) ∈ lw_all := lw_g (lw_at lw_m9 100 rfl) rfl
theorem q2101 : (Jvm.Cond.declares ({ cls := "java/util/AbstractCollection", name := "iterator", desc := "()Ljava/util/Iterator;" } : Jvm.MethodName)) ∈ lw_tbl := lw_at lw_m9 101 rfl
theorem q2102 : (Jvm.Cond.sameMethod "java/util/AbstractCollection" "java/util/AbstractCollection" "iterator" "()Ljava/util/Iterator;") ∈ lw_all := lw_g (lw_at lw_m9 102 rfl) rfl
theorem q2103 : (Jvm.Cond.selects "java/util/AbstractMap$2" ({ cls := "java/util/AbstractCollection", name := "iterator", desc := "()Ljava/util/Iterator;" } : Jvm.MethodName) ({ cls := "java/util/AbstractMap$2", name := "iterator", desc := "()Ljava/util/Iterator;" } : Jvm.MethodName)) ∈ lw_all := lw_g (lw_at lw_m9 103 rfl) rfl
theorem q2104 : (Jvm.Cond.instanceMethod ({ cls := "java/util/AbstractMap$2", name := "iterator", desc := "()Ljava/util/Iterator;" } : Jvm.MethodName)) ∈ lw_all := lw_g (lw_at lw_m9 104 rfl) rfl
theorem q2105 : (Jvm.Cond.code ({ cls := "java/util/AbstractMap$2", name := "iterator", desc := "()Ljava/util/Iterator;" } : Jvm.MethodName) prog_56_method_2_code (1 : Nat) (Option.some (Jvm.ClassFile.FieldType.object "java/util/Iterator"))) ∈ lw_all := lw_g (lw_at lw_m9 105 rfl) rfl
theorem q2106 : (Jvm.Cond.classLink "java/util/AbstractMap$2" (13 : Nat) "java/util/AbstractMap$2$1") ∈ lw_all := lw_g (lw_at lw_m9 106 rfl) rfl
theorem q2107 : (Jvm.Cond.instantiable "java/util/AbstractMap$2$1" (2 : Nat)) ∈ lw_all := lw_g (lw_at lw_m9 107 rfl) rfl
theorem q2108 : (Jvm.Cond.methodLink "java/util/AbstractMap$2" (15 : Nat) ({ cls := "java/util/AbstractMap$2$1", name := "<init>", desc := "(Ljava/util/AbstractMap$2;)V" } : Jvm.MethodName)) ∈ lw_all := lw_g (lw_at lw_m9 108 rfl) rfl
theorem q2109 : (Jvm.Cond.instanceMethod ({ cls := "java/util/AbstractMap$2$1", name := "<init>", desc := "(Ljava/util/AbstractMap$2;)V" } : Jvm.MethodName)) ∈ lw_all := lw_g (lw_at lw_m9 109 rfl) rfl
theorem q2110 : (Jvm.Cond.code ({ cls := "java/util/AbstractMap$2$1", name := "<init>", desc := "(Ljava/util/AbstractMap$2;)V" } : Jvm.MethodName) prog_57_method_1_code (2 : Nat) (Option.none : Option Jvm.ClassFile.FieldType)) ∈ lw_all := lw_g (lw_at lw_m9 110 rfl) rfl
theorem q2111 : (Jvm.Cond.methodLink "java/util/AbstractMap$2$1" (7 : Nat) ({ cls := "java/lang/Object", name := "<init>", desc := "()V" } : Jvm.MethodName)) ∈ lw_all := lw_g (lw_at lw_m9 111 rfl) rfl
theorem q2112 : (Jvm.Cond.methodLink "java/util/AbstractMap$2$1" (19 : Nat) ({ cls := "java/util/AbstractMap", name := "entrySet", desc := "()Ljava/util/Set;" } : Jvm.MethodName)) ∈ lw_all := lw_g (lw_at lw_m9 112 rfl) rfl
theorem q2113 : (Jvm.Cond.interfaceEntry "java/util/AbstractMap$2$1" (25 : Nat)) ∈ lw_tbl := lw_at lw_m9 113 rfl
theorem q2114 : (Jvm.Cond.methodLink "java/util/AbstractMap$2$1" (25 : Nat) ({ cls := "java/util/Set", name := "iterator", desc := "()Ljava/util/Iterator;" } : Jvm.MethodName)) ∈ lw_all := lw_g (lw_at lw_m9 114 rfl) rfl
theorem q2115 : (Jvm.Cond.fieldLink "java/util/AbstractMap$2$1" (31 : Nat) "java/util/AbstractMap$2$1" "i" "Ljava/util/Iterator;") ∈ lw_all := lw_g (lw_at lw_m9 115 rfl) rfl
theorem q2116 : (Jvm.Cond.fieldLink "java/util/AbstractMap$2$1" (1 : Nat) "java/util/AbstractMap$2$1" "this$1" "Ljava/util/AbstractMap$2;") ∈ lw_all := lw_g (lw_at lw_m9 116 rfl) rfl
theorem q2117 : (Jvm.Cond.lays "java/util/AbstractMap$2$1" "java/util/AbstractMap$2$1" "i" "Ljava/util/Iterator;") ∈ lw_all := lw_g (lw_at lw_m9 117 rfl) rfl
theorem q2118 : (Jvm.Cond.soleField "java/util/AbstractMap$2$1" "i") ∈ lw_all := lw_g (lw_at lw_m9 118 rfl) rfl
theorem q2119 : (Jvm.Cond.laysFinal "java/util/AbstractMap$2$1" "java/util/AbstractMap$2$1" "this$1" "Ljava/util/AbstractMap$2;") ∈ lw_all := lw_g (lw_at lw_m9 119 rfl) rfl
theorem q2120 : (Jvm.Cond.soleField "java/util/AbstractMap$2$1" "this$1") ∈ lw_all := lw_g (lw_at lw_m9 120 rfl) rfl
theorem q2121 : (Jvm.Cond.superclass "java/util/AbstractMap$2$1" "java/lang/Object") ∈ lw_all := lw_g (lw_at lw_m9 121 rfl) rfl
theorem q2122 : (Jvm.Cond.selects "java/util/ArrayList" ({ cls := "java/util/AbstractCollection", name := "iterator", desc := "()Ljava/util/Iterator;" } : Jvm.MethodName) ({ cls := "java/util/ArrayList", name := "iterator", desc := "()Ljava/util/Iterator;" } : Jvm.MethodName)) ∈ lw_all := lw_g (lw_at lw_m9 122 rfl) rfl
theorem q2123 : (Jvm.Cond.selects "java/util/TreeMap$AscendingSubMap$AscendingEntrySetView" ({ cls := "java/util/AbstractCollection", name := "iterator", desc := "()Ljava/util/Iterator;" } : Jvm.MethodName) ({ cls := "java/util/TreeMap$AscendingSubMap$AscendingEntrySetView", name := "iterator", desc := "()Ljava/util/Iterator;" } : Jvm.MethodName)) ∈ lw_all := lw_g (lw_at lw_m9 123 rfl) rfl
theorem q2124 : (Jvm.Cond.selects "java/util/TreeMap$EntrySet" ({ cls := "java/util/AbstractCollection", name := "iterator", desc := "()Ljava/util/Iterator;" } : Jvm.MethodName) ({ cls := "java/util/TreeMap$EntrySet", name := "iterator", desc := "()Ljava/util/Iterator;" } : Jvm.MethodName)) ∈ lw_all := lw_g (lw_at lw_m9 124 rfl) rfl
theorem q2125 : (Jvm.Cond.selects "java/util/TreeMap$KeySet" ({ cls := "java/util/AbstractCollection", name := "iterator", desc := "()Ljava/util/Iterator;" } : Jvm.MethodName) ({ cls := "java/util/TreeMap$KeySet", name := "iterator", desc := "()Ljava/util/Iterator;" } : Jvm.MethodName)) ∈ lw_all := lw_g (lw_at lw_m9 125 rfl) rfl
theorem q2126 : (Jvm.Cond.selects "java/util/TreeMap$Values" ({ cls := "java/util/AbstractCollection", name := "iterator", desc := "()Ljava/util/Iterator;" } : Jvm.MethodName) ({ cls := "java/util/TreeMap$Values", name := "iterator", desc := "()Ljava/util/Iterator;" } : Jvm.MethodName)) ∈ lw_all := lw_g (lw_at lw_m9 126 rfl) rfl
theorem q2127 : (Jvm.Cond.instanceMethod ({ cls := "java/util/TreeMap$Values", name := "iterator", desc := "()Ljava/util/Iterator;" } : Jvm.MethodName)) ∈ lw_all := lw_g (lw_at lw_m9 127 rfl) rfl
theorem q2128 : (Jvm.Cond.code ({ cls := "java/util/TreeMap$Values", name := "iterator", desc := "()Ljava/util/Iterator;" } : Jvm.MethodName) prog_94_method_2_code (1 : Nat) (Option.some (Jvm.ClassFile.FieldType.object "java/util/Iterator"))) ∈ lw_all := lw_g (lw_at lw_m9 128 rfl) rfl
theorem q2129 : (Jvm.Cond.classLink "java/util/TreeMap$Values" (13 : Nat) "java/util/TreeMap$ValueIterator") ∈ lw_all := lw_g (lw_at lw_m9 129 rfl) rfl
theorem q2130 : (Jvm.Cond.instantiable "java/util/TreeMap$ValueIterator" (4 : Nat)) ∈ lw_all := lw_g (lw_at lw_m9 130 rfl) rfl
theorem q2131 : (Jvm.Cond.methodLink "java/util/TreeMap$Values" (15 : Nat) ({ cls := "java/util/TreeMap", name := "getFirstEntry", desc := "()Ljava/util/TreeMap$Entry;" } : Jvm.MethodName)) ∈ lw_all := lw_g (lw_at lw_m9 131 rfl) rfl
theorem q2132 : (Jvm.Cond.methodLink "java/util/TreeMap$Values" (21 : Nat) ({ cls := "java/util/TreeMap$ValueIterator", name := "<init>", desc := "(Ljava/util/TreeMap;Ljava/util/TreeMap$Entry;)V" } : Jvm.MethodName)) ∈ lw_all := lw_g (lw_at lw_m9 132 rfl) rfl
theorem q2133 : (Jvm.Cond.instanceMethod ({ cls := "java/util/TreeMap$ValueIterator", name := "<init>", desc := "(Ljava/util/TreeMap;Ljava/util/TreeMap$Entry;)V" } : Jvm.MethodName)) ∈ lw_all := lw_g (lw_at lw_m9 133 rfl) rfl
theorem q2134 : (Jvm.Cond.code ({ cls := "java/util/TreeMap$ValueIterator", name := "<init>", desc := "(Ljava/util/TreeMap;Ljava/util/TreeMap$Entry;)V" } : Jvm.MethodName) prog_93_method_1_code (3 : Nat) (Option.none : Option Jvm.ClassFile.FieldType)) ∈ lw_all := lw_g (lw_at lw_m9 134 rfl) rfl
theorem q2135 : (Jvm.Cond.methodLink "java/util/TreeMap$ValueIterator" (1 : Nat) ({ cls := "java/util/TreeMap$PrivateEntryIterator", name := "<init>", desc := "(Ljava/util/TreeMap;Ljava/util/TreeMap$Entry;)V" } : Jvm.MethodName)) ∈ lw_all := lw_g (lw_at lw_m9 135 rfl) rfl
theorem q2136 : (Jvm.Cond.lays "java/util/TreeMap$ValueIterator" "java/util/TreeMap$PrivateEntryIterator" "next" "Ljava/util/TreeMap$Entry;") ∈ lw_all := lw_g (lw_at lw_m9 136 rfl) rfl
theorem q2137 : (Jvm.Cond.lays "java/util/TreeMap$ValueIterator" "java/util/TreeMap$PrivateEntryIterator" "lastReturned" "Ljava/util/TreeMap$Entry;") ∈ lw_all := lw_g (lw_at lw_m9 137 rfl) rfl
theorem q2138 : (Jvm.Cond.lays "java/util/TreeMap$ValueIterator" "java/util/TreeMap$PrivateEntryIterator" "expectedModCount" "I") ∈ lw_all := lw_g (lw_at lw_m9 138 rfl) rfl
theorem q2139 : (Jvm.Cond.laysFinal "java/util/TreeMap$ValueIterator" "java/util/TreeMap$PrivateEntryIterator" "this$0" "Ljava/util/TreeMap;") ∈ lw_all := lw_g (lw_at lw_m9 139 rfl) rfl
theorem q2140 : (Jvm.Cond.superclass "java/util/TreeMap$ValueIterator" "java/util/TreeMap$PrivateEntryIterator") ∈ lw_all := lw_g (lw_at lw_m9 140 rfl) rfl
theorem q2141 : (Jvm.Cond.interfaceEntry "java/util/AbstractCollection" (17 : Nat)) ∈ lw_tbl := lw_at lw_m9 141 rfl
theorem q2142 : (Jvm.Cond.methodLink "java/util/AbstractCollection" (17 : Nat) ({ cls := "java/util/Iterator", name := "hasNext", desc := "()Z" } : Jvm.MethodName)) ∈ lw_all := lw_g (lw_at lw_m9 142 rfl) rfl
theorem q2143 : (Jvm.Cond.interfaceEntry "java/util/AbstractCollection" (23 : Nat)) ∈ lw_tbl := lw_at lw_m9 143 rfl
theorem q2144 : (Jvm.Cond.methodLink "java/util/AbstractCollection" (23 : Nat) ({ cls := "java/util/Iterator", name := "next", desc := "()Ljava/lang/Object;" } : Jvm.MethodName)) ∈ lw_all := lw_g (lw_at lw_m9 144 rfl) rfl
theorem q2145 : (Jvm.Cond.interfaceEntry "java/util/AbstractCollection" (73 : Nat)) ∈ lw_tbl := lw_at lw_m9 145 rfl
theorem q2146 : (Jvm.Cond.methodLink "java/util/AbstractCollection" (73 : Nat) ({ cls := "java/util/Iterator", name := "remove", desc := "()V" } : Jvm.MethodName)) ∈ lw_all := lw_g (lw_at lw_m9 146 rfl) rfl
theorem q2147 : (Jvm.Cond.interfaceMethod "java/util/Iterator" "java/util/Iterator" "remove" "()V") ∈ lw_tbl := lw_at lw_m9 147 rfl
theorem q2148 : (Jvm.Cond.declares ({ cls := "java/util/Iterator", name := "remove", desc := "()V" } : Jvm.MethodName)) ∈ lw_tbl := lw_at lw_m9 148 rfl
theorem q2149 : (Jvm.Cond.selects "java/util/AbstractMap$2$1" ({ cls := "java/util/Iterator", name := "remove", desc := "()V" } : Jvm.MethodName) ({ cls := "java/util/AbstractMap$2$1", name := "remove", desc := "()V" } : Jvm.MethodName)) ∈ lw_all := lw_g (lw_at lw_m9 149 rfl) rfl
theorem q2150 : (Jvm.Cond.unhidden "java/util/AbstractMap$2$1" "remove" "()V") ∈ lw_tbl := lw_at lw_m9 150 rfl
theorem q2151 : (Jvm.Cond.instanceMethod ({ cls := "java/util/AbstractMap$2$1", name := "remove", desc := "()V" } : Jvm.MethodName)) ∈ lw_all := lw_g (lw_at lw_m9 151 rfl) rfl
theorem q2152 : (Jvm.Cond.publicMethod ({ cls := "java/util/AbstractMap$2$1", name := "remove", desc := "()V" } : Jvm.MethodName)) ∈ lw_tbl := lw_at lw_m9 152 rfl
theorem q2153 : (Jvm.Cond.code ({ cls := "java/util/AbstractMap$2$1", name := "remove", desc := "()V" } : Jvm.MethodName) prog_57_method_4_code (1 : Nat) (Option.none : Option Jvm.ClassFile.FieldType)) ∈ lw_all := lw_g (lw_at lw_m9 153 rfl) rfl
theorem q2154 : (Jvm.Cond.interfaceEntry "java/util/AbstractMap$2$1" (50 : Nat)) ∈ lw_tbl := lw_at lw_m9 154 rfl
theorem q2155 : (Jvm.Cond.methodLink "java/util/AbstractMap$2$1" (50 : Nat) ({ cls := "java/util/Iterator", name := "remove", desc := "()V" } : Jvm.MethodName)) ∈ lw_all := lw_g (lw_at lw_m9 155 rfl) rfl
theorem q2156 : (Jvm.Cond.selects "java/util/ArrayList$Itr" ({ cls := "java/util/Iterator", name := "remove", desc := "()V" } : Jvm.MethodName) ({ cls := "java/util/ArrayList$Itr", name := "remove", desc := "()V" } : Jvm.MethodName)) ∈ lw_all := lw_g (lw_at lw_m9 156 rfl) rfl
theorem q2157 : (Jvm.Cond.unhidden "java/util/ArrayList$Itr" "remove" "()V") ∈ lw_tbl := lw_at lw_m9 157 rfl
theorem q2158 : (Jvm.Cond.instanceMethod ({ cls := "java/util/ArrayList$Itr", name := "remove", desc := "()V" } : Jvm.MethodName)) ∈ lw_all := lw_g (lw_at lw_m9 158 rfl) rfl
theorem q2159 : (Jvm.Cond.publicMethod ({ cls := "java/util/ArrayList$Itr", name := "remove", desc := "()V" } : Jvm.MethodName)) ∈ lw_tbl := lw_at lw_m9 159 rfl
theorem q2160 : (Jvm.Cond.codeWith ({ cls := "java/util/ArrayList$Itr", name := "remove", desc := "()V" } : Jvm.MethodName) prog_60_method_4_code (2 : Nat) (Option.none : Option Jvm.ClassFile.FieldType) [((19 : Nat), (55 : Nat), (58 : Nat), (51 : Nat))]) ∈ lw_all := lw_g (lw_at lw_m9 160 rfl) rfl
theorem q2161 : (Jvm.Cond.classLink "java/util/ArrayList$Itr" (44 : Nat) "java/lang/IllegalStateException") ∈ lw_all := lw_g (lw_at lw_m9 161 rfl) rfl
theorem q2162 : (Jvm.Cond.methodLink "java/util/ArrayList$Itr" (46 : Nat) ({ cls := "java/lang/IllegalStateException", name := "<init>", desc := "()V" } : Jvm.MethodName)) ∈ lw_all := lw_g (lw_at lw_m9 162 rfl) rfl
theorem q2163 : (Jvm.Cond.instanceMethod ({ cls := "java/lang/IllegalStateException", name := "<init>", desc := "()V" } : Jvm.MethodName)) ∈ lw_all := lw_g (lw_at lw_m9 163 rfl) rfl
theorem q2164 : (Jvm.Cond.code ({ cls := "java/lang/IllegalStateException", name := "<init>", desc := "()V" } : Jvm.MethodName) prog_35_method_1_code (1 : Nat) (Option.none : Option Jvm.ClassFile.FieldType)) ∈ lw_all := lw_g (lw_at lw_m9 164 rfl) rfl
theorem q2165 : (Jvm.Cond.methodLink "java/lang/IllegalStateException" (1 : Nat) ({ cls := "java/lang/RuntimeException", name := "<init>", desc := "()V" } : Jvm.MethodName)) ∈ lw_all := lw_g (lw_at lw_m9 165 rfl) rfl
theorem q2166 : (Jvm.Cond.instanceMethod ({ cls := "java/lang/RuntimeException", name := "<init>", desc := "()V" } : Jvm.MethodName)) ∈ lw_all := lw_g (lw_at lw_m9 166 rfl) rfl
theorem q2167 : (Jvm.Cond.code ({ cls := "java/lang/RuntimeException", name := "<init>", desc := "()V" } : Jvm.MethodName) prog_44_method_1_code (1 : Nat) (Option.none : Option Jvm.ClassFile.FieldType)) ∈ lw_all := lw_g (lw_at lw_m9 167 rfl) rfl
theorem q2168 : (Jvm.Cond.methodLink "java/lang/RuntimeException" (1 : Nat) ({ cls := "java/lang/Exception", name := "<init>", desc := "()V" } : Jvm.MethodName)) ∈ lw_all := lw_g (lw_at lw_m9 168 rfl) rfl
theorem q2169 : (Jvm.Cond.instanceMethod ({ cls := "java/lang/Exception", name := "<init>", desc := "()V" } : Jvm.MethodName)) ∈ lw_all := lw_g (lw_at lw_m9 169 rfl) rfl
theorem q2170 : (Jvm.Cond.code ({ cls := "java/lang/Exception", name := "<init>", desc := "()V" } : Jvm.MethodName) prog_33_method_1_code (1 : Nat) (Option.none : Option Jvm.ClassFile.FieldType)) ∈ lw_all := lw_g (lw_at lw_m9 170 rfl) rfl
theorem q2171 : (Jvm.Cond.methodLink "java/lang/Exception" (1 : Nat) ({ cls := "java/lang/Throwable", name := "<init>", desc := "()V" } : Jvm.MethodName)) ∈ lw_all := lw_g (lw_at lw_m9 171 rfl) rfl
theorem q2172 : (Jvm.Cond.methodLink "java/util/ArrayList$Itr" (47 : Nat) ({ cls := "java/util/ArrayList", name := "remove", desc := "(I)Ljava/lang/Object;" } : Jvm.MethodName)) ∈ lw_all := lw_g (lw_at lw_m9 172 rfl) rfl
theorem q2173 : (Jvm.Cond.instanceMethod ({ cls := "java/util/ArrayList", name := "remove", desc := "(I)Ljava/lang/Object;" } : Jvm.MethodName)) ∈ lw_all := lw_g (lw_at lw_m9 173 rfl) rfl
theorem q2174 : (Jvm.Cond.selects "java/util/ArrayList" ({ cls := "java/util/ArrayList", name := "remove", desc := "(I)Ljava/lang/Object;" } : Jvm.MethodName) ({ cls := "java/util/ArrayList", name := "remove", desc := "(I)Ljava/lang/Object;" } : Jvm.MethodName)) ∈ lw_all := lw_g (lw_at lw_m9 174 rfl) rfl
theorem q2175 : (Jvm.Cond.code ({ cls := "java/util/ArrayList", name := "remove", desc := "(I)Ljava/lang/Object;" } : Jvm.MethodName) prog_59_method_29_code (4 : Nat) (Option.some (Jvm.ClassFile.FieldType.object "java/lang/Object"))) ∈ lw_all := lw_g (lw_at lw_m9 175 rfl) rfl
theorem q2176 : (Jvm.Cond.methodLink "java/util/ArrayList" (144 : Nat) ({ cls := "java/util/ArrayList", name := "fastRemove", desc := "([Ljava/lang/Object;I)V" } : Jvm.MethodName)) ∈ lw_all := lw_g (lw_at lw_m9 176 rfl) rfl
theorem q2177 : (Jvm.Cond.privateMethod ({ cls := "java/util/ArrayList", name := "fastRemove", desc := "([Ljava/lang/Object;I)V" } : Jvm.MethodName)) ∈ lw_tbl := lw_at lw_m9 177 rfl
theorem q2178 : (Jvm.Cond.instanceMethod ({ cls := "java/util/ArrayList", name := "fastRemove", desc := "([Ljava/lang/Object;I)V" } : Jvm.MethodName)) ∈ lw_all := lw_g (lw_at lw_m9 178 rfl) rfl
theorem q2179 : (Jvm.Cond.code ({ cls := "java/util/ArrayList", name := "fastRemove", desc := "([Ljava/lang/Object;I)V" } : Jvm.MethodName) prog_59_method_39_code (4 : Nat) (Option.none : Option Jvm.ClassFile.FieldType)) ∈ lw_all := lw_g (lw_at lw_m9 179 rfl) rfl
theorem q2180 : (Jvm.Cond.classLink "java/util/ArrayList$Itr" (41 : Nat) "java/util/ConcurrentModificationException") ∈ lw_all := lw_g (lw_at lw_m9 180 rfl) rfl
theorem q2181 : (Jvm.Cond.instantiable "java/util/ConcurrentModificationException" (6 : Nat)) ∈ lw_all := lw_g (lw_at lw_m9 181 rfl) rfl
theorem q2182 : (Jvm.Cond.methodLink "java/util/ArrayList$Itr" (43 : Nat) ({ cls := "java/util/ConcurrentModificationException", name := "<init>", desc := "()V" } : Jvm.MethodName)) ∈ lw_all := lw_g (lw_at lw_m9 182 rfl) rfl
theorem q2183 : (Jvm.Cond.instanceMethod ({ cls := "java/util/ConcurrentModificationException", name := "<init>", desc := "()V" } : Jvm.MethodName)) ∈ lw_all := lw_g (lw_at lw_m9 183 rfl) rfl
theorem q2184 : (Jvm.Cond.code ({ cls := "java/util/ConcurrentModificationException", name := "<init>", desc := "()V" } : Jvm.MethodName) prog_64_method_1_code (1 : Nat) (Option.none : Option Jvm.ClassFile.FieldType)) ∈ lw_all := lw_g (lw_at lw_m9 184 rfl) rfl
theorem q2185 : (Jvm.Cond.methodLink "java/util/ConcurrentModificationException" (1 : Nat) ({ cls := "java/lang/RuntimeException", name := "<init>", desc := "()V" } : Jvm.MethodName)) ∈ lw_all := lw_g (lw_at lw_m9 185 rfl) rfl
theorem q2186 : (Jvm.Cond.lays "java/util/ConcurrentModificationException" "java/lang/Throwable" "backtrace" "Ljava/lang/Object;") ∈ lw_all := lw_g (lw_at lw_m9 186 rfl) rfl
theorem q2187 : (Jvm.Cond.lays "java/util/ConcurrentModificationException" "java/lang/Throwable" "detailMessage" "Ljava/lang/String;") ∈ lw_all := lw_g (lw_at lw_m9 187 rfl) rfl
theorem q2188 : (Jvm.Cond.lays "java/util/ConcurrentModificationException" "java/lang/Throwable" "cause" "Ljava/lang/Throwable;") ∈ lw_all := lw_g (lw_at lw_m9 188 rfl) rfl
theorem q2189 : (Jvm.Cond.lays "java/util/ConcurrentModificationException" "java/lang/Throwable" "stackTrace" "[Ljava/lang/StackTraceElement;") ∈ lw_all := lw_g (lw_at lw_m9 189 rfl) rfl
theorem q2190 : (Jvm.Cond.lays "java/util/ConcurrentModificationException" "java/lang/Throwable" "depth" "I") ∈ lw_all := lw_g (lw_at lw_m9 190 rfl) rfl
theorem q2191 : (Jvm.Cond.lays "java/util/ConcurrentModificationException" "java/lang/Throwable" "suppressedExceptions" "Ljava/util/List;") ∈ lw_all := lw_g (lw_at lw_m9 191 rfl) rfl
theorem q2192 : (Jvm.Cond.superclass "java/util/ConcurrentModificationException" "java/lang/RuntimeException") ∈ lw_all := lw_g (lw_at lw_m9 192 rfl) rfl
theorem q2193 : (Jvm.Cond.selects "java/util/TreeMap$EntryIterator" ({ cls := "java/util/Iterator", name := "remove", desc := "()V" } : Jvm.MethodName) ({ cls := "java/util/TreeMap$PrivateEntryIterator", name := "remove", desc := "()V" } : Jvm.MethodName)) ∈ lw_all := lw_g (lw_at lw_m9 193 rfl) rfl
theorem q2194 : (Jvm.Cond.unhidden "java/util/TreeMap$EntryIterator" "remove" "()V") ∈ lw_tbl := lw_at lw_m9 194 rfl
theorem q2195 : (Jvm.Cond.instanceMethod ({ cls := "java/util/TreeMap$PrivateEntryIterator", name := "remove", desc := "()V" } : Jvm.MethodName)) ∈ lw_all := lw_g (lw_at lw_m9 195 rfl) rfl
theorem q2196 : (Jvm.Cond.publicMethod ({ cls := "java/util/TreeMap$PrivateEntryIterator", name := "remove", desc := "()V" } : Jvm.MethodName)) ∈ lw_tbl := lw_at lw_m9 196 rfl
theorem q2197 : (Jvm.Cond.code ({ cls := "java/util/TreeMap$PrivateEntryIterator", name := "remove", desc := "()V" } : Jvm.MethodName) prog_92_method_5_code (1 : Nat) (Option.none : Option Jvm.ClassFile.FieldType)) ∈ lw_all := lw_g (lw_at lw_m9 197 rfl) rfl
theorem q2198 : (Jvm.Cond.classLink "java/util/TreeMap$PrivateEntryIterator" (42 : Nat) "java/lang/IllegalStateException") ∈ lw_all := lw_g (lw_at lw_m9 198 rfl) rfl
theorem q2199 : (Jvm.Cond.methodLink "java/util/TreeMap$PrivateEntryIterator" (44 : Nat) ({ cls := "java/lang/IllegalStateException", name := "<init>", desc := "()V" } : Jvm.MethodName)) ∈ lw_all := lw_g (lw_at lw_m9 199 rfl) rfl
theorem q2200 : (Jvm.Cond.methodLinkNest "java/util/TreeMap$PrivateEntryIterator" (53 : Nat) ({ cls := "java/util/TreeMap", name := "deleteEntry", desc := "(Ljava/util/TreeMap$Entry;)V" } : Jvm.MethodName) "java/util/TreeMap") ∈ lw_tbl := lw_at lw_m9 200 rfl
theorem q2201 : (Jvm.Cond.privateMethod ({ cls := "java/util/TreeMap", name := "deleteEntry", desc := "(Ljava/util/TreeMap$Entry;)V" } : Jvm.MethodName)) ∈ lw_tbl := lw_at lw_m9 201 rfl
theorem q2202 : (Jvm.Cond.instanceMethod ({ cls := "java/util/TreeMap", name := "deleteEntry", desc := "(Ljava/util/TreeMap$Entry;)V" } : Jvm.MethodName)) ∈ lw_all := lw_g (lw_at lw_m9 202 rfl) rfl
theorem q2203 : (Jvm.Cond.code ({ cls := "java/util/TreeMap", name := "deleteEntry", desc := "(Ljava/util/TreeMap$Entry;)V" } : Jvm.MethodName) prog_79_method_84_code (3 : Nat) (Option.none : Option Jvm.ClassFile.FieldType)) ∈ lw_all := lw_g (lw_at lw_m9 203 rfl) rfl
theorem q2204 : (Jvm.Cond.methodLink "java/util/TreeMap" (68 : Nat) ({ cls := "java/util/TreeMap", name := "successor", desc := "(Ljava/util/TreeMap$Entry;)Ljava/util/TreeMap$Entry;" } : Jvm.MethodName)) ∈ lw_all := lw_g (lw_at lw_m9 204 rfl) rfl
theorem q2205 : (Jvm.Cond.methodLink "java/util/TreeMap" (317 : Nat) ({ cls := "java/util/TreeMap", name := "fixAfterDeletion", desc := "(Ljava/util/TreeMap$Entry;)V" } : Jvm.MethodName)) ∈ lw_all := lw_g (lw_at lw_m9 205 rfl) rfl
theorem q2206 : (Jvm.Cond.privateMethod ({ cls := "java/util/TreeMap", name := "fixAfterDeletion", desc := "(Ljava/util/TreeMap$Entry;)V" } : Jvm.MethodName)) ∈ lw_tbl := lw_at lw_m9 206 rfl
theorem q2207 : (Jvm.Cond.instanceMethod ({ cls := "java/util/TreeMap", name := "fixAfterDeletion", desc := "(Ljava/util/TreeMap$Entry;)V" } : Jvm.MethodName)) ∈ lw_all := lw_g (lw_at lw_m9 207 rfl) rfl
theorem q2208 : (Jvm.Cond.code ({ cls := "java/util/TreeMap", name := "fixAfterDeletion", desc := "(Ljava/util/TreeMap$Entry;)V" } : Jvm.MethodName) prog_79_method_85_code (3 : Nat) (Option.none : Option Jvm.ClassFile.FieldType)) ∈ lw_all := lw_g (lw_at lw_m9 208 rfl) rfl
theorem q2209 : (Jvm.Cond.selects "java/util/TreeMap$KeyIterator" ({ cls := "java/util/Iterator", name := "remove", desc := "()V" } : Jvm.MethodName) ({ cls := "java/util/TreeMap$PrivateEntryIterator", name := "remove", desc := "()V" } : Jvm.MethodName)) ∈ lw_all := lw_g (lw_at lw_m9 209 rfl) rfl
theorem q2210 : (Jvm.Cond.unhidden "java/util/TreeMap$KeyIterator" "remove" "()V") ∈ lw_tbl := lw_at lw_m9 210 rfl
theorem q2211 : (Jvm.Cond.selects "java/util/TreeMap$NavigableSubMap$SubMapEntryIterator" ({ cls := "java/util/Iterator", name := "remove", desc := "()V" } : Jvm.MethodName) ({ cls := "java/util/TreeMap$NavigableSubMap$SubMapEntryIterator", name := "remove", desc := "()V" } : Jvm.MethodName)) ∈ lw_all := lw_g (lw_at lw_m9 211 rfl) rfl
theorem q2212 : (Jvm.Cond.unhidden "java/util/TreeMap$NavigableSubMap$SubMapEntryIterator" "remove" "()V") ∈ lw_tbl := lw_at lw_m9 212 rfl
theorem q2213 : (Jvm.Cond.instanceMethod ({ cls := "java/util/TreeMap$NavigableSubMap$SubMapEntryIterator", name := "remove", desc := "()V" } : Jvm.MethodName)) ∈ lw_all := lw_g (lw_at lw_m9 213 rfl) rfl
theorem q2214 : (Jvm.Cond.publicMethod ({ cls := "java/util/TreeMap$NavigableSubMap$SubMapEntryIterator", name := "remove", desc := "()V" } : Jvm.MethodName)) ∈ lw_tbl := lw_at lw_m9 214 rfl
theorem q2215 : (Jvm.Cond.code ({ cls := "java/util/TreeMap$NavigableSubMap$SubMapEntryIterator", name := "remove", desc := "()V" } : Jvm.MethodName) prog_89_method_3_code (1 : Nat) (Option.none : Option Jvm.ClassFile.FieldType)) ∈ lw_all := lw_g (lw_at lw_m9 215 rfl) rfl
theorem q2216 : (Jvm.Cond.methodLink "java/util/TreeMap$NavigableSubMap$SubMapEntryIterator" (13 : Nat) ({ cls := "java/util/TreeMap$NavigableSubMap$SubMapEntryIterator", name := "removeAscending", desc := "()V" } : Jvm.MethodName)) ∈ lw_all := lw_g (lw_at lw_m9 216 rfl) rfl
theorem q2217 : (Jvm.Cond.sameMethod "java/util/TreeMap$NavigableSubMap$SubMapEntryIterator" "java/util/TreeMap$NavigableSubMap$SubMapIterator" "removeAscending" "()V") ∈ lw_all := lw_g (lw_at lw_m9 217 rfl) rfl
theorem q2218 : (Jvm.Cond.declares ({ cls := "java/util/TreeMap$NavigableSubMap$SubMapIterator", name := "removeAscending", desc := "()V" } : Jvm.MethodName)) ∈ lw_tbl := lw_at lw_m9 218 rfl
theorem q2219 : (Jvm.Cond.selects "java/util/TreeMap$NavigableSubMap$SubMapEntryIterator" ({ cls := "java/util/TreeMap$NavigableSubMap$SubMapEntryIterator", name := "removeAscending", desc := "()V" } : Jvm.MethodName) ({ cls := "java/util/TreeMap$NavigableSubMap$SubMapIterator", name := "removeAscending", desc := "()V" } : Jvm.MethodName)) ∈ lw_all := lw_g (lw_at lw_m9 219 rfl) rfl
theorem q2220 : (Jvm.Cond.instanceMethod ({ cls := "java/util/TreeMap$NavigableSubMap$SubMapIterator", name := "removeAscending", desc := "()V" } : Jvm.MethodName)) ∈ lw_all := lw_g (lw_at lw_m9 220 rfl) rfl
theorem q2221 : (Jvm.Cond.code ({ cls := "java/util/TreeMap$NavigableSubMap$SubMapIterator", name := "removeAscending", desc := "()V" } : Jvm.MethodName) prog_90_method_5_code (1 : Nat) (Option.none : Option Jvm.ClassFile.FieldType)) ∈ lw_all := lw_g (lw_at lw_m9 221 rfl) rfl
theorem q2222 : (Jvm.Cond.classLink "java/util/TreeMap$NavigableSubMap$SubMapIterator" (60 : Nat) "java/lang/IllegalStateException") ∈ lw_all := lw_g (lw_at lw_m9 222 rfl) rfl
theorem q2223 : (Jvm.Cond.methodLink "java/util/TreeMap$NavigableSubMap$SubMapIterator" (62 : Nat) ({ cls := "java/lang/IllegalStateException", name := "<init>", desc := "()V" } : Jvm.MethodName)) ∈ lw_all := lw_g (lw_at lw_m9 223 rfl) rfl
theorem q2224 : (Jvm.Cond.methodLinkNest "java/util/TreeMap$NavigableSubMap$SubMapIterator" (69 : Nat) ({ cls := "java/util/TreeMap", name := "deleteEntry", desc := "(Ljava/util/TreeMap$Entry;)V" } : Jvm.MethodName) "java/util/TreeMap") ∈ lw_tbl := lw_at lw_m9 224 rfl
theorem q2225 : (Jvm.Cond.selects "java/util/TreeMap$NavigableSubMap$SubMapKeyIterator" ({ cls := "java/util/Iterator", name := "remove", desc := "()V" } : Jvm.MethodName) ({ cls := "java/util/TreeMap$NavigableSubMap$SubMapKeyIterator", name := "remove", desc := "()V" } : Jvm.MethodName)) ∈ lw_all := lw_g (lw_at lw_m9 225 rfl) rfl
theorem q2226 : (Jvm.Cond.unhidden "java/util/TreeMap$NavigableSubMap$SubMapKeyIterator" "remove" "()V") ∈ lw_tbl := lw_at lw_m9 226 rfl
theorem q2227 : (Jvm.Cond.instanceMethod ({ cls := "java/util/TreeMap$NavigableSubMap$SubMapKeyIterator", name := "remove", desc := "()V" } : Jvm.MethodName)) ∈ lw_all := lw_g (lw_at lw_m9 227 rfl) rfl
theorem q2228 : (Jvm.Cond.publicMethod ({ cls := "java/util/TreeMap$NavigableSubMap$SubMapKeyIterator", name := "remove", desc := "()V" } : Jvm.MethodName)) ∈ lw_tbl := lw_at lw_m9 228 rfl
theorem q2229 : (Jvm.Cond.code ({ cls := "java/util/TreeMap$NavigableSubMap$SubMapKeyIterator", name := "remove", desc := "()V" } : Jvm.MethodName) prog_91_method_3_code (1 : Nat) (Option.none : Option Jvm.ClassFile.FieldType)) ∈ lw_all := lw_g (lw_at lw_m9 229 rfl) rfl
theorem q2230 : (Jvm.Cond.methodLink "java/util/TreeMap$NavigableSubMap$SubMapKeyIterator" (23 : Nat) ({ cls := "java/util/TreeMap$NavigableSubMap$SubMapKeyIterator", name := "removeAscending", desc := "()V" } : Jvm.MethodName)) ∈ lw_all := lw_g (lw_at lw_m9 230 rfl) rfl
theorem q2231 : (Jvm.Cond.sameMethod "java/util/TreeMap$NavigableSubMap$SubMapKeyIterator" "java/util/TreeMap$NavigableSubMap$SubMapIterator" "removeAscending" "()V") ∈ lw_all := lw_g (lw_at lw_m9 231 rfl) rfl
theorem q2232 : (Jvm.Cond.selects "java/util/TreeMap$NavigableSubMap$SubMapKeyIterator" ({ cls := "java/util/TreeMap$NavigableSubMap$SubMapKeyIterator", name := "removeAscending", desc := "()V" } : Jvm.MethodName) ({ cls := "java/util/TreeMap$NavigableSubMap$SubMapIterator", name := "removeAscending", desc := "()V" } : Jvm.MethodName)) ∈ lw_all := lw_g (lw_at lw_m9 232 rfl) rfl
theorem q2233 : (Jvm.Cond.selects "java/util/TreeMap$ValueIterator" ({ cls := "java/util/Iterator", name := "remove", desc := "()V" } : Jvm.MethodName) ({ cls := "java/util/TreeMap$PrivateEntryIterator", name := "remove", desc := "()V" } : Jvm.MethodName)) ∈ lw_all := lw_g (lw_at lw_m9 233 rfl) rfl
theorem q2234 : (Jvm.Cond.unhidden "java/util/TreeMap$ValueIterator" "remove" "()V") ∈ lw_tbl := lw_at lw_m9 234 rfl
theorem q2235 : (Jvm.Cond.selects "java/util/TreeMap$EntrySet" ({ cls := "java/util/Set", name := "clear", desc := "()V" } : Jvm.MethodName) ({ cls := "java/util/TreeMap$EntrySet", name := "clear", desc := "()V" } : Jvm.MethodName)) ∈ lw_all := lw_g (lw_at lw_m9 235 rfl) rfl
theorem q2236 : (Jvm.Cond.unhidden "java/util/TreeMap$EntrySet" "clear" "()V") ∈ lw_tbl := lw_at lw_m9 236 rfl
theorem q2237 : (Jvm.Cond.instanceMethod ({ cls := "java/util/TreeMap$EntrySet", name := "clear", desc := "()V" } : Jvm.MethodName)) ∈ lw_all := lw_g (lw_at lw_m9 237 rfl) rfl
theorem q2238 : (Jvm.Cond.publicMethod ({ cls := "java/util/TreeMap$EntrySet", name := "clear", desc := "()V" } : Jvm.MethodName)) ∈ lw_tbl := lw_at lw_m9 238 rfl
theorem q2239 : (Jvm.Cond.code ({ cls := "java/util/TreeMap$EntrySet", name := "clear", desc := "()V" } : Jvm.MethodName) prog_84_method_6_code (1 : Nat) (Option.none : Option Jvm.ClassFile.FieldType)) ∈ lw_all := lw_g (lw_at lw_m9 239 rfl) rfl
theorem q2240 : (Jvm.Cond.methodLink "java/util/TreeMap$EntrySet" (52 : Nat) ({ cls := "java/util/TreeMap", name := "clear", desc := "()V" } : Jvm.MethodName)) ∈ lw_all := lw_g (lw_at lw_m10 0 rfl) rfl
theorem q2241 : (Jvm.Cond.selects "java/util/TreeMap$KeySet" ({ cls := "java/util/Set", name := "clear", desc := "()V" } : Jvm.MethodName) ({ cls := "java/util/TreeMap$KeySet", name := "clear", desc := "()V" } : Jvm.MethodName)) ∈ lw_all := lw_g (lw_at lw_m10 1 rfl) rfl
theorem q2242 : (Jvm.Cond.unhidden "java/util/TreeMap$KeySet" "clear" "()V") ∈ lw_tbl := lw_at lw_m10 2 rfl
theorem q2243 : (Jvm.Cond.instanceMethod ({ cls := "java/util/TreeMap$KeySet", name := "clear", desc := "()V" } : Jvm.MethodName)) ∈ lw_all := lw_g (lw_at lw_m10 3 rfl) rfl
theorem q2244 : (Jvm.Cond.publicMethod ({ cls := "java/util/TreeMap$KeySet", name := "clear", desc := "()V" } : Jvm.MethodName)) ∈ lw_tbl := lw_at lw_m10 4 rfl
theorem q2245 : (Jvm.Cond.code ({ cls := "java/util/TreeMap$KeySet", name := "clear", desc := "()V" } : Jvm.MethodName) prog_86_method_7_code (1 : Nat) (Option.none : Option Jvm.ClassFile.FieldType)) ∈ lw_all := lw_g (lw_at lw_m10 5 rfl) rfl
theorem q2246 : (Jvm.Cond.interfaceEntry "java/util/TreeMap$KeySet" (40 : Nat)) ∈ lw_tbl := lw_at lw_m10 6 rfl
theorem q2247 : (Jvm.Cond.publicMethod ({ cls := "java/util/Map", name := "clear", desc := "()V" } : Jvm.MethodName)) ∈ lw_tbl := lw_at lw_m10 7 rfl
theorem q2248 : (Jvm.Cond.castable "java/util/TreeMap" "java/util/NavigableMap") ∈ lw_tbl := lw_at lw_m10 8 rfl
theorem q2249 : (Jvm.Cond.castable "java/util/TreeMap$AscendingSubMap" "java/util/NavigableMap") ∈ lw_tbl := lw_at lw_m10 9 rfl
theorem q2250 : (Jvm.Cond.methodLink "MasterTree$Entry" (84 : Nat) ({ cls := "java/util/TreeMap", name := "put", desc := "(Ljava/lang/Object;Ljava/lang/Object;)Ljava/lang/Object;" } : Jvm.MethodName)) ∈ lw_all := lw_g (lw_at lw_m10 10 rfl) rfl
theorem q2251 : (Jvm.Cond.selects "MasterTree$Kind$2" ({ cls := "MasterTree$Kind", name := "does", desc := "(LMasterTree$Change;LMasterTree$Entry;)V" } : Jvm.MethodName) ({ cls := "MasterTree$Kind$2", name := "does", desc := "(LMasterTree$Change;LMasterTree$Entry;)V" } : Jvm.MethodName)) ∈ lw_all := lw_g (lw_at lw_m10 11 rfl) rfl
theorem q2252 : (Jvm.Cond.instanceMethod ({ cls := "MasterTree$Kind$2", name := "does", desc := "(LMasterTree$Change;LMasterTree$Entry;)V" } : Jvm.MethodName)) ∈ lw_all := lw_g (lw_at lw_m10 12 rfl) rfl
theorem q2253 : (Jvm.Cond.code ({ cls := "MasterTree$Kind$2", name := "does", desc := "(LMasterTree$Change;LMasterTree$Entry;)V" } : Jvm.MethodName) prog_12_method_2_code (3 : Nat) (Option.none : Option Jvm.ClassFile.FieldType)) ∈ lw_all := lw_g (lw_at lw_m10 13 rfl) rfl
theorem q2254 : (Jvm.Cond.methodLink "MasterTree$Kind$2" (16 : Nat) ({ cls := "MasterTree$Entry", name := "comes", desc := "(II)V" } : Jvm.MethodName)) ∈ lw_all := lw_g (lw_at lw_m10 14 rfl) rfl
theorem q2255 : (Jvm.Cond.selects "MasterTree$Kind$3" ({ cls := "MasterTree$Kind", name := "does", desc := "(LMasterTree$Change;LMasterTree$Entry;)V" } : Jvm.MethodName) ({ cls := "MasterTree$Kind$3", name := "does", desc := "(LMasterTree$Change;LMasterTree$Entry;)V" } : Jvm.MethodName)) ∈ lw_all := lw_g (lw_at lw_m10 15 rfl) rfl
theorem q2256 : (Jvm.Cond.instanceMethod ({ cls := "MasterTree$Kind$3", name := "does", desc := "(LMasterTree$Change;LMasterTree$Entry;)V" } : Jvm.MethodName)) ∈ lw_all := lw_g (lw_at lw_m10 16 rfl) rfl
theorem q2257 : (Jvm.Cond.code ({ cls := "MasterTree$Kind$3", name := "does", desc := "(LMasterTree$Change;LMasterTree$Entry;)V" } : Jvm.MethodName) prog_13_method_2_code (3 : Nat) (Option.none : Option Jvm.ClassFile.FieldType)) ∈ lw_all := lw_g (lw_at lw_m10 17 rfl) rfl
theorem q2258 : (Jvm.Cond.methodLink "MasterTree$Kind$3" (22 : Nat) ({ cls := "MasterTree$Entry", name := "place", desc := "(II)I" } : Jvm.MethodName)) ∈ lw_all := lw_g (lw_at lw_m10 18 rfl) rfl
theorem q2259 : (Jvm.Cond.methodLink "MasterTree$Kind$3" (26 : Nat) ({ cls := "java/lang/Integer", name := "valueOf", desc := "(I)Ljava/lang/Integer;" } : Jvm.MethodName)) ∈ lw_all := lw_g (lw_at lw_m10 19 rfl) rfl
theorem q2260 : (Jvm.Cond.methodLink "MasterTree$Kind$3" (32 : Nat) ({ cls := "java/util/TreeMap", name := "remove", desc := "(Ljava/lang/Object;)Ljava/lang/Object;" } : Jvm.MethodName)) ∈ lw_all := lw_g (lw_at lw_m10 20 rfl) rfl
theorem q2261 : (Jvm.Cond.instanceMethod ({ cls := "java/util/TreeMap", name := "remove", desc := "(Ljava/lang/Object;)Ljava/lang/Object;" } : Jvm.MethodName)) ∈ lw_all := lw_g (lw_at lw_m10 21 rfl) rfl
theorem q2262 : (Jvm.Cond.selects "java/util/TreeMap" ({ cls := "java/util/TreeMap", name := "remove", desc := "(Ljava/lang/Object;)Ljava/lang/Object;" } : Jvm.MethodName) ({ cls := "java/util/TreeMap", name := "remove", desc := "(Ljava/lang/Object;)Ljava/lang/Object;" } : Jvm.MethodName)) ∈ lw_all := lw_g (lw_at lw_m10 22 rfl) rfl
theorem q2263 : (Jvm.Cond.code ({ cls := "java/util/TreeMap", name := "remove", desc := "(Ljava/lang/Object;)Ljava/lang/Object;" } : Jvm.MethodName) prog_79_method_34_code (4 : Nat) (Option.some (Jvm.ClassFile.FieldType.object "java/lang/Object"))) ∈ lw_all := lw_g (lw_at lw_m10 23 rfl) rfl
theorem q2264 : (Jvm.Cond.methodLink "java/util/TreeMap" (174 : Nat) ({ cls := "java/util/TreeMap", name := "deleteEntry", desc := "(Ljava/util/TreeMap$Entry;)V" } : Jvm.MethodName)) ∈ lw_all := lw_g (lw_at lw_m10 24 rfl) rfl
theorem q2265 : (Jvm.Cond.selects "MasterTree$Kind$4" ({ cls := "MasterTree$Kind", name := "does", desc := "(LMasterTree$Change;LMasterTree$Entry;)V" } : Jvm.MethodName) ({ cls := "MasterTree$Kind$4", name := "does", desc := "(LMasterTree$Change;LMasterTree$Entry;)V" } : Jvm.MethodName)) ∈ lw_all := lw_g (lw_at lw_m10 25 rfl) rfl
theorem q2266 : (Jvm.Cond.instanceMethod ({ cls := "MasterTree$Kind$4", name := "does", desc := "(LMasterTree$Change;LMasterTree$Entry;)V" } : Jvm.MethodName)) ∈ lw_all := lw_g (lw_at lw_m10 26 rfl) rfl
theorem q2267 : (Jvm.Cond.code ({ cls := "MasterTree$Kind$4", name := "does", desc := "(LMasterTree$Change;LMasterTree$Entry;)V" } : Jvm.MethodName) prog_14_method_2_code (3 : Nat) (Option.none : Option Jvm.ClassFile.FieldType)) ∈ lw_all := lw_g (lw_at lw_m10 27 rfl) rfl
theorem q2268 : (Jvm.Cond.methodLink "MasterTree$Kind$4" (13 : Nat) ({ cls := "MasterTree$Entry", name := "valuesOf", desc := "(I)Ljava/util/Map;" } : Jvm.MethodName)) ∈ lw_all := lw_g (lw_at lw_m10 28 rfl) rfl
theorem q2269 : (Jvm.Cond.interfaceEntry "MasterTree$Kind$4" (19 : Nat)) ∈ lw_tbl := lw_at lw_m10 29 rfl
theorem q2270 : (Jvm.Cond.methodLink "MasterTree$Kind$4" (19 : Nat) ({ cls := "java/util/Map", name := "clear", desc := "()V" } : Jvm.MethodName)) ∈ lw_all := lw_g (lw_at lw_m10 30 rfl) rfl
theorem q2271 : (Jvm.Cond.methodLink "MasterTree$Kind$4" (28 : Nat) ({ cls := "MasterTree$Entry", name := "comes", desc := "(II)V" } : Jvm.MethodName)) ∈ lw_all := lw_g (lw_at lw_m10 31 rfl) rfl
theorem q2272 : (Jvm.Cond.selects "MasterTree$Kind$5" ({ cls := "MasterTree$Kind", name := "does", desc := "(LMasterTree$Change;LMasterTree$Entry;)V" } : Jvm.MethodName) ({ cls := "MasterTree$Kind$5", name := "does", desc := "(LMasterTree$Change;LMasterTree$Entry;)V" } : Jvm.MethodName)) ∈ lw_all := lw_g (lw_at lw_m10 32 rfl) rfl
theorem q2273 : (Jvm.Cond.instanceMethod ({ cls := "MasterTree$Kind$5", name := "does", desc := "(LMasterTree$Change;LMasterTree$Entry;)V" } : Jvm.MethodName)) ∈ lw_all := lw_g (lw_at lw_m10 33 rfl) rfl
theorem q2274 : (Jvm.Cond.code ({ cls := "MasterTree$Kind$5", name := "does", desc := "(LMasterTree$Change;LMasterTree$Entry;)V" } : Jvm.MethodName) prog_15_method_2_code (3 : Nat) (Option.none : Option Jvm.ClassFile.FieldType)) ∈ lw_all := lw_g (lw_at lw_m10 34 rfl) rfl
theorem q2275 : (Jvm.Cond.selects "MasterTree$Kind$6" ({ cls := "MasterTree$Kind", name := "does", desc := "(LMasterTree$Change;LMasterTree$Entry;)V" } : Jvm.MethodName) ({ cls := "MasterTree$Kind$6", name := "does", desc := "(LMasterTree$Change;LMasterTree$Entry;)V" } : Jvm.MethodName)) ∈ lw_all := lw_g (lw_at lw_m10 35 rfl) rfl
theorem q2276 : (Jvm.Cond.instanceMethod ({ cls := "MasterTree$Kind$6", name := "does", desc := "(LMasterTree$Change;LMasterTree$Entry;)V" } : Jvm.MethodName)) ∈ lw_all := lw_g (lw_at lw_m10 36 rfl) rfl
theorem q2277 : (Jvm.Cond.code ({ cls := "MasterTree$Kind$6", name := "does", desc := "(LMasterTree$Change;LMasterTree$Entry;)V" } : Jvm.MethodName) prog_16_method_2_code (3 : Nat) (Option.none : Option Jvm.ClassFile.FieldType)) ∈ lw_all := lw_g (lw_at lw_m10 37 rfl) rfl
theorem q2278 : (Jvm.Cond.selects "MasterTree$Kind$7" ({ cls := "MasterTree$Kind", name := "does", desc := "(LMasterTree$Change;LMasterTree$Entry;)V" } : Jvm.MethodName) ({ cls := "MasterTree$Kind$7", name := "does", desc := "(LMasterTree$Change;LMasterTree$Entry;)V" } : Jvm.MethodName)) ∈ lw_all := lw_g (lw_at lw_m10 38 rfl) rfl
theorem q2279 : (Jvm.Cond.instanceMethod ({ cls := "MasterTree$Kind$7", name := "does", desc := "(LMasterTree$Change;LMasterTree$Entry;)V" } : Jvm.MethodName)) ∈ lw_all := lw_g (lw_at lw_m10 39 rfl) rfl
theorem q2280 : (Jvm.Cond.code ({ cls := "MasterTree$Kind$7", name := "does", desc := "(LMasterTree$Change;LMasterTree$Entry;)V" } : Jvm.MethodName) prog_17_method_2_code (3 : Nat) (Option.none : Option Jvm.ClassFile.FieldType)) ∈ lw_all := lw_g (lw_at lw_m10 40 rfl) rfl
theorem q2281 : (Jvm.Cond.methodLink "MasterTree$Kind$7" (19 : Nat) ({ cls := "java/lang/Integer", name := "valueOf", desc := "(I)Ljava/lang/Integer;" } : Jvm.MethodName)) ∈ lw_all := lw_g (lw_at lw_m10 41 rfl) rfl
theorem q2282 : (Jvm.Cond.methodLink "MasterTree$Kind$7" (28 : Nat) ({ cls := "java/util/TreeMap", name := "put", desc := "(Ljava/lang/Object;Ljava/lang/Object;)Ljava/lang/Object;" } : Jvm.MethodName)) ∈ lw_all := lw_g (lw_at lw_m10 42 rfl) rfl
theorem q2283 : (Jvm.Cond.selects "MasterTree$Kind$8" ({ cls := "MasterTree$Kind", name := "does", desc := "(LMasterTree$Change;LMasterTree$Entry;)V" } : Jvm.MethodName) ({ cls := "MasterTree$Kind$8", name := "does", desc := "(LMasterTree$Change;LMasterTree$Entry;)V" } : Jvm.MethodName)) ∈ lw_all := lw_g (lw_at lw_m10 43 rfl) rfl
theorem q2284 : (Jvm.Cond.instanceMethod ({ cls := "MasterTree$Kind$8", name := "does", desc := "(LMasterTree$Change;LMasterTree$Entry;)V" } : Jvm.MethodName)) ∈ lw_all := lw_g (lw_at lw_m10 44 rfl) rfl
theorem q2285 : (Jvm.Cond.code ({ cls := "MasterTree$Kind$8", name := "does", desc := "(LMasterTree$Change;LMasterTree$Entry;)V" } : Jvm.MethodName) prog_18_method_2_code (3 : Nat) (Option.none : Option Jvm.ClassFile.FieldType)) ∈ lw_all := lw_g (lw_at lw_m10 45 rfl) rfl
theorem q2286 : (Jvm.Cond.selects "MasterTree$Kind$9" ({ cls := "MasterTree$Kind", name := "does", desc := "(LMasterTree$Change;LMasterTree$Entry;)V" } : Jvm.MethodName) ({ cls := "MasterTree$Kind$9", name := "does", desc := "(LMasterTree$Change;LMasterTree$Entry;)V" } : Jvm.MethodName)) ∈ lw_all := lw_g (lw_at lw_m10 46 rfl) rfl
theorem q2287 : (Jvm.Cond.instanceMethod ({ cls := "MasterTree$Kind$9", name := "does", desc := "(LMasterTree$Change;LMasterTree$Entry;)V" } : Jvm.MethodName)) ∈ lw_all := lw_g (lw_at lw_m10 47 rfl) rfl
theorem q2288 : (Jvm.Cond.code ({ cls := "MasterTree$Kind$9", name := "does", desc := "(LMasterTree$Change;LMasterTree$Entry;)V" } : Jvm.MethodName) prog_19_method_2_code (3 : Nat) (Option.none : Option Jvm.ClassFile.FieldType)) ∈ lw_all := lw_g (lw_at lw_m10 48 rfl) rfl
theorem q2289 : (Jvm.Cond.fieldLink "MasterTree$Master" (159 : Nat) "MasterTree$Kind" "ADD" "LMasterTree$Kind;") ∈ lw_all := lw_g (lw_at lw_m10 49 rfl) rfl
theorem q2290 : (Jvm.Cond.fieldLink "MasterTree$Master" (164 : Nat) "MasterTree$Kind" "MOVE" "LMasterTree$Kind;") ∈ lw_all := lw_g (lw_at lw_m10 50 rfl) rfl
theorem q2291 : (Jvm.Cond.laysStatic "MasterTree$Kind" "MOVE" "LMasterTree$Kind;") ∈ lw_tbl := lw_at lw_m10 51 rfl
theorem q2292 : (Jvm.Cond.methodLinkNest "MasterTree$Master" (167 : Nat) ({ cls := "MasterTree", name := "findsParents", desc := "(Ljava/util/List;[I)V" } : Jvm.MethodName) "MasterTree") ∈ lw_tbl := lw_at lw_m10 52 rfl
theorem q2293 : (Jvm.Cond.static ({ cls := "MasterTree", name := "findsParents", desc := "(Ljava/util/List;[I)V" } : Jvm.MethodName)) ∈ lw_all := lw_g (lw_at lw_m10 53 rfl) rfl
theorem q2294 : (Jvm.Cond.code ({ cls := "MasterTree", name := "findsParents", desc := "(Ljava/util/List;[I)V" } : Jvm.MethodName) prog_1_method_2_code (6 : Nat) (Option.none : Option Jvm.ClassFile.FieldType)) ∈ lw_all := lw_g (lw_at lw_m10 54 rfl) rfl
theorem q2295 : (Jvm.Cond.fieldLink "MasterTree" (30 : Nat) "MasterTree$Kind" "MOVE" "LMasterTree$Kind;") ∈ lw_all := lw_g (lw_at lw_m10 55 rfl) rfl
theorem q2296 : (Jvm.Cond.methodLink "MasterTree" (40 : Nat) ({ cls := "MasterTree", name := "isAbove", desc := "([III)Z" } : Jvm.MethodName)) ∈ lw_all := lw_g (lw_at lw_m10 56 rfl) rfl
theorem q2297 : (Jvm.Cond.static ({ cls := "MasterTree", name := "isAbove", desc := "([III)Z" } : Jvm.MethodName)) ∈ lw_all := lw_g (lw_at lw_m10 57 rfl) rfl
theorem q2298 : (Jvm.Cond.code ({ cls := "MasterTree", name := "isAbove", desc := "([III)Z" } : Jvm.MethodName) prog_1_method_3_code (4 : Nat) (Option.some Jvm.ClassFile.FieldType.boolean)) ∈ lw_all := lw_g (lw_at lw_m10 58 rfl) rfl
theorem q2299 : (Jvm.Cond.methodLink "MasterTreeLaw" (171 : Nat) ({ cls := "MasterTreeLaw", name := "addValue", desc := "(LMasterTree;IIII[J)I" } : Jvm.MethodName)) ∈ lw_all := lw_g (lw_at lw_m10 59 rfl) rfl
theorem q2300 : (Jvm.Cond.static ({ cls := "MasterTreeLaw", name := "addValue", desc := "(LMasterTree;IIII[J)I" } : Jvm.MethodName)) ∈ lw_all := lw_g (lw_at lw_m10 60 rfl) rfl
theorem q2301 : (Jvm.Cond.codeWith ({ cls := "MasterTreeLaw", name := "addValue", desc := "(LMasterTree;IIII[J)I" } : Jvm.MethodName) method_8_code (7 : Nat) (Option.some Jvm.ClassFile.FieldType.int) [((0 : Nat), (14 : Nat), (17 : Nat), (19 : Nat)), ((0 : Nat), (14 : Nat), (21 : Nat), (28 : Nat)), ((0 : Nat), (14 : Nat), (25 : Nat), (13 : Nat))]) ∈ lw_all := lw_g (lw_at lw_m10 61 rfl) rfl
theorem q2302 : (Jvm.Cond.methodLink "MasterTreeLaw" (34 : Nat) ({ cls := "MasterTree", name := "addValue", desc := "(IIII)I" } : Jvm.MethodName)) ∈ lw_all := lw_g (lw_at lw_m10 62 rfl) rfl
theorem q2303 : (Jvm.Cond.instanceMethod ({ cls := "MasterTree", name := "addValue", desc := "(IIII)I" } : Jvm.MethodName)) ∈ lw_all := lw_g (lw_at lw_m10 63 rfl) rfl
theorem q2304 : (Jvm.Cond.selects "MasterTree" ({ cls := "MasterTree", name := "addValue", desc := "(IIII)I" } : Jvm.MethodName) ({ cls := "MasterTree", name := "addValue", desc := "(IIII)I" } : Jvm.MethodName)) ∈ lw_all := lw_g (lw_at lw_m10 64 rfl) rfl
theorem q2305 : (Jvm.Cond.code ({ cls := "MasterTree", name := "addValue", desc := "(IIII)I" } : Jvm.MethodName) prog_1_method_25_code (9 : Nat) (Option.some Jvm.ClassFile.FieldType.int)) ∈ lw_all := lw_g (lw_at lw_m10 65 rfl) rfl
theorem q2306 : (Jvm.Cond.methodLink "MasterTree" (271 : Nat) ({ cls := "MasterTree", name := "changeable", desc := "(LMasterTree$Master;I)LMasterTree$Entry;" } : Jvm.MethodName)) ∈ lw_all := lw_g (lw_at lw_m10 66 rfl) rfl
theorem q2307 : (Jvm.Cond.static ({ cls := "MasterTree", name := "changeable", desc := "(LMasterTree$Master;I)LMasterTree$Entry;" } : Jvm.MethodName)) ∈ lw_all := lw_g (lw_at lw_m10 67 rfl) rfl
theorem q2308 : (Jvm.Cond.code ({ cls := "MasterTree", name := "changeable", desc := "(LMasterTree$Master;I)LMasterTree$Entry;" } : Jvm.MethodName) prog_1_method_8_code (2 : Nat) (Option.some (Jvm.ClassFile.FieldType.object "MasterTree$Entry"))) ∈ lw_all := lw_g (lw_at lw_m10 68 rfl) rfl
theorem q2309 : (Jvm.Cond.stringRef "MasterTree" (131 : Nat) "the root cannot be changed") ∈ lw_tbl := lw_at lw_m10 69 rfl
theorem q2310 : (Jvm.Cond.methodLink "MasterTree" (274 : Nat) ({ cls := "MasterTree", name := "isIn", desc := "(LMasterTree$Entry;IZ)Z" } : Jvm.MethodName)) ∈ lw_all := lw_g (lw_at lw_m10 70 rfl) rfl
theorem q2311 : (Jvm.Cond.privateMethod ({ cls := "MasterTree", name := "isIn", desc := "(LMasterTree$Entry;IZ)Z" } : Jvm.MethodName)) ∈ lw_tbl := lw_at lw_m10 71 rfl
theorem q2312 : (Jvm.Cond.instanceMethod ({ cls := "MasterTree", name := "isIn", desc := "(LMasterTree$Entry;IZ)Z" } : Jvm.MethodName)) ∈ lw_all := lw_g (lw_at lw_m10 72 rfl) rfl
theorem q2313 : (Jvm.Cond.code ({ cls := "MasterTree", name := "isIn", desc := "(LMasterTree$Entry;IZ)Z" } : Jvm.MethodName) prog_1_method_24_code (5 : Nat) (Option.some Jvm.ClassFile.FieldType.boolean)) ∈ lw_all := lw_g (lw_at lw_m10 73 rfl) rfl
theorem q2314 : (Jvm.Cond.methodLink "MasterTree" (278 : Nat) ({ cls := "MasterTree$Entry", name := "has", desc := "(II)Z" } : Jvm.MethodName)) ∈ lw_all := lw_g (lw_at lw_m10 74 rfl) rfl
theorem q2315 : (Jvm.Cond.methodLink "MasterTree" (282 : Nat) ({ cls := "MasterTree$Entry", name := "valuesOf", desc := "(I)Ljava/util/Map;" } : Jvm.MethodName)) ∈ lw_all := lw_g (lw_at lw_m10 75 rfl) rfl
theorem q2316 : (Jvm.Cond.interfaceEntry "MasterTree" (286 : Nat)) ∈ lw_tbl := lw_at lw_m10 76 rfl
theorem q2317 : (Jvm.Cond.methodLink "MasterTree" (286 : Nat) ({ cls := "java/util/Map", name := "isEmpty", desc := "()Z" } : Jvm.MethodName)) ∈ lw_all := lw_g (lw_at lw_m10 77 rfl) rfl
theorem q2318 : (Jvm.Cond.interfaceMethod "java/util/Map" "java/util/Map" "isEmpty" "()Z") ∈ lw_tbl := lw_at lw_m10 78 rfl
theorem q2319 : (Jvm.Cond.declares ({ cls := "java/util/Map", name := "isEmpty", desc := "()Z" } : Jvm.MethodName)) ∈ lw_tbl := lw_at lw_m10 79 rfl
theorem q2320 : (Jvm.Cond.selects "java/util/TreeMap" ({ cls := "java/util/Map", name := "isEmpty", desc := "()Z" } : Jvm.MethodName) ({ cls := "java/util/AbstractMap", name := "isEmpty", desc := "()Z" } : Jvm.MethodName)) ∈ lw_all := lw_g (lw_at lw_m10 80 rfl) rfl
theorem q2321 : (Jvm.Cond.unhidden "java/util/TreeMap" "isEmpty" "()Z") ∈ lw_tbl := lw_at lw_m10 81 rfl
theorem q2322 : (Jvm.Cond.instanceMethod ({ cls := "java/util/AbstractMap", name := "isEmpty", desc := "()Z" } : Jvm.MethodName)) ∈ lw_all := lw_g (lw_at lw_m10 82 rfl) rfl
theorem q2323 : (Jvm.Cond.publicMethod ({ cls := "java/util/AbstractMap", name := "isEmpty", desc := "()Z" } : Jvm.MethodName)) ∈ lw_tbl := lw_at lw_m10 83 rfl
theorem q2324 : (Jvm.Cond.code ({ cls := "java/util/AbstractMap", name := "isEmpty", desc := "()Z" } : Jvm.MethodName) prog_55_method_3_code (1 : Nat) (Option.some Jvm.ClassFile.FieldType.boolean)) ∈ lw_all := lw_g (lw_at lw_m10 84 rfl) rfl
theorem q2325 : (Jvm.Cond.methodLink "java/util/AbstractMap" (19 : Nat) ({ cls := "java/util/AbstractMap", name := "size", desc := "()I" } : Jvm.MethodName)) ∈ lw_all := lw_g (lw_at lw_m10 85 rfl) rfl
theorem q2326 : (Jvm.Cond.instanceMethod ({ cls := "java/util/AbstractMap", name := "size", desc := "()I" } : Jvm.MethodName)) ∈ lw_all := lw_g (lw_at lw_m10 86 rfl) rfl
theorem q2327 : (Jvm.Cond.sameMethod "java/util/AbstractMap" "java/util/AbstractMap" "size" "()I") ∈ lw_all := lw_g (lw_at lw_m10 87 rfl) rfl
theorem q2328 : (Jvm.Cond.selects "java/util/TreeMap" ({ cls := "java/util/AbstractMap", name := "size", desc := "()I" } : Jvm.MethodName) ({ cls := "java/util/TreeMap", name := "size", desc := "()I" } : Jvm.MethodName)) ∈ lw_all := lw_g (lw_at lw_m10 88 rfl) rfl
theorem q2329 : (Jvm.Cond.instanceMethod ({ cls := "java/util/TreeMap", name := "size", desc := "()I" } : Jvm.MethodName)) ∈ lw_all := lw_g (lw_at lw_m10 89 rfl) rfl
theorem q2330 : (Jvm.Cond.code ({ cls := "java/util/TreeMap", name := "size", desc := "()I" } : Jvm.MethodName) prog_79_method_5_code (1 : Nat) (Option.some Jvm.ClassFile.FieldType.int)) ∈ lw_all := lw_g (lw_at lw_m10 90 rfl) rfl
theorem q2331 : (Jvm.Cond.selects "java/util/TreeMap$AscendingSubMap" ({ cls := "java/util/AbstractMap", name := "size", desc := "()I" } : Jvm.MethodName) ({ cls := "java/util/TreeMap$NavigableSubMap", name := "size", desc := "()I" } : Jvm.MethodName)) ∈ lw_all := lw_g (lw_at lw_m10 91 rfl) rfl
theorem q2332 : (Jvm.Cond.instanceMethod ({ cls := "java/util/TreeMap$NavigableSubMap", name := "size", desc := "()I" } : Jvm.MethodName)) ∈ lw_all := lw_g (lw_at lw_m10 92 rfl) rfl
theorem q2333 : (Jvm.Cond.code ({ cls := "java/util/TreeMap$NavigableSubMap", name := "size", desc := "()I" } : Jvm.MethodName) prog_87_method_25_code (1 : Nat) (Option.some Jvm.ClassFile.FieldType.int)) ∈ lw_all := lw_g (lw_at lw_m10 93 rfl) rfl
theorem q2334 : (Jvm.Cond.methodLink "java/util/TreeMap$NavigableSubMap" (101 : Nat) ({ cls := "java/util/TreeMap", name := "size", desc := "()I" } : Jvm.MethodName)) ∈ lw_all := lw_g (lw_at lw_m10 94 rfl) rfl
theorem q2335 : (Jvm.Cond.methodLink "java/util/TreeMap$NavigableSubMap" (94 : Nat) ({ cls := "java/util/TreeMap$NavigableSubMap", name := "entrySet", desc := "()Ljava/util/Set;" } : Jvm.MethodName)) ∈ lw_all := lw_g (lw_at lw_m10 95 rfl) rfl
theorem q2336 : (Jvm.Cond.sameMethod "java/util/TreeMap$NavigableSubMap" "java/util/AbstractMap" "entrySet" "()Ljava/util/Set;") ∈ lw_all := lw_g (lw_at lw_m10 96 rfl) rfl
theorem q2337 : (Jvm.Cond.selects "java/util/TreeMap$AscendingSubMap" ({ cls := "java/util/TreeMap$NavigableSubMap", name := "entrySet", desc := "()Ljava/util/Set;" } : Jvm.MethodName) ({ cls := "java/util/TreeMap$AscendingSubMap", name := "entrySet", desc := "()Ljava/util/Set;" } : Jvm.MethodName)) ∈ lw_all := lw_g (lw_at lw_m10 97 rfl) rfl
theorem q2338 : (Jvm.Cond.interfaceEntry "java/util/TreeMap$NavigableSubMap" (105 : Nat)) ∈ lw_tbl := lw_at lw_m10 98 rfl
theorem q2339 : (Jvm.Cond.methodLink "java/util/TreeMap$NavigableSubMap" (105 : Nat) ({ cls := "java/util/Set", name := "size", desc := "()I" } : Jvm.MethodName)) ∈ lw_all := lw_g (lw_at lw_m10 99 rfl) rfl
theorem q2340 : (Jvm.Cond.interfaceMethod "java/util/Set" "java/util/Set" "size" "()I") ∈ lw_tbl := lw_at lw_m10 100 rfl
theorem q2341 : (Jvm.Cond.declares ({ cls := "java/util/Set", name := "size", desc := "()I" } : Jvm.MethodName)) ∈ lw_tbl := lw_at lw_m10 101 rfl
theorem q2342 : (Jvm.Cond.selects "java/util/TreeMap$AscendingSubMap$AscendingEntrySetView" ({ cls := "java/util/Set", name := "size", desc := "()I" } : Jvm.MethodName) ({ cls := "java/util/TreeMap$NavigableSubMap$EntrySetView", name := "size", desc := "()I" } : Jvm.MethodName)) ∈ lw_all := lw_g (lw_at lw_m10 102 rfl) rfl
theorem q2343 : (Jvm.Cond.unhidden "java/util/TreeMap$AscendingSubMap$AscendingEntrySetView" "size" "()I") ∈ lw_tbl := lw_at lw_m10 103 rfl
theorem q2344 : (Jvm.Cond.instanceMethod ({ cls := "java/util/TreeMap$NavigableSubMap$EntrySetView", name := "size", desc := "()I" } : Jvm.MethodName)) ∈ lw_all := lw_g (lw_at lw_m10 104 rfl) rfl
theorem q2345 : (Jvm.Cond.publicMethod ({ cls := "java/util/TreeMap$NavigableSubMap$EntrySetView", name := "size", desc := "()I" } : Jvm.MethodName)) ∈ lw_tbl := lw_at lw_m10 105 rfl
theorem q2346 : (Jvm.Cond.code ({ cls := "java/util/TreeMap$NavigableSubMap$EntrySetView", name := "size", desc := "()I" } : Jvm.MethodName) prog_88_method_2_code (2 : Nat) (Option.some Jvm.ClassFile.FieldType.int)) ∈ lw_all := lw_g (lw_at lw_m10 106 rfl) rfl
theorem q2347 : (Jvm.Cond.methodLink "java/util/TreeMap$NavigableSubMap$EntrySetView" (30 : Nat) ({ cls := "java/util/TreeMap", name := "size", desc := "()I" } : Jvm.MethodName)) ∈ lw_all := lw_g (lw_at lw_m10 107 rfl) rfl
theorem q2348 : (Jvm.Cond.methodLink "java/util/TreeMap$NavigableSubMap$EntrySetView" (41 : Nat) ({ cls := "java/util/TreeMap$NavigableSubMap$EntrySetView", name := "iterator", desc := "()Ljava/util/Iterator;" } : Jvm.MethodName)) ∈ lw_all := lw_g (lw_at lw_m10 108 rfl) rfl
theorem q2349 : (Jvm.Cond.sameMethod "java/util/TreeMap$NavigableSubMap$EntrySetView" "java/util/AbstractCollection" "iterator" "()Ljava/util/Iterator;") ∈ lw_all := lw_g (lw_at lw_m10 109 rfl) rfl
theorem q2350 : (Jvm.Cond.selects "java/util/TreeMap$AscendingSubMap$AscendingEntrySetView" ({ cls := "java/util/TreeMap$NavigableSubMap$EntrySetView", name := "iterator", desc := "()Ljava/util/Iterator;" } : Jvm.MethodName) ({ cls := "java/util/TreeMap$AscendingSubMap$AscendingEntrySetView", name := "iterator", desc := "()Ljava/util/Iterator;" } : Jvm.MethodName)) ∈ lw_all := lw_g (lw_at lw_m10 110 rfl) rfl
theorem q2351 : (Jvm.Cond.interfaceEntry "java/util/TreeMap$NavigableSubMap$EntrySetView" (45 : Nat)) ∈ lw_tbl := lw_at lw_m10 111 rfl
theorem q2352 : (Jvm.Cond.methodLink "java/util/TreeMap$NavigableSubMap$EntrySetView" (45 : Nat) ({ cls := "java/util/Iterator", name := "hasNext", desc := "()Z" } : Jvm.MethodName)) ∈ lw_all := lw_g (lw_at lw_m10 112 rfl) rfl
theorem q2353 : (Jvm.Cond.interfaceEntry "java/util/TreeMap$NavigableSubMap$EntrySetView" (51 : Nat)) ∈ lw_tbl := lw_at lw_m10 113 rfl
theorem q2354 : (Jvm.Cond.methodLink "java/util/TreeMap$NavigableSubMap$EntrySetView" (51 : Nat) ({ cls := "java/util/Iterator", name := "next", desc := "()Ljava/lang/Object;" } : Jvm.MethodName)) ∈ lw_all := lw_g (lw_at lw_m10 114 rfl) rfl
theorem q2355 : (Jvm.Cond.selects "java/util/TreeMap$EntrySet" ({ cls := "java/util/Set", name := "size", desc := "()I" } : Jvm.MethodName) ({ cls := "java/util/TreeMap$EntrySet", name := "size", desc := "()I" } : Jvm.MethodName)) ∈ lw_all := lw_g (lw_at lw_m10 115 rfl) rfl
theorem q2356 : (Jvm.Cond.unhidden "java/util/TreeMap$EntrySet" "size" "()I") ∈ lw_tbl := lw_at lw_m10 116 rfl
theorem q2357 : (Jvm.Cond.instanceMethod ({ cls := "java/util/TreeMap$EntrySet", name := "size", desc := "()I" } : Jvm.MethodName)) ∈ lw_all := lw_g (lw_at lw_m10 117 rfl) rfl
theorem q2358 : (Jvm.Cond.publicMethod ({ cls := "java/util/TreeMap$EntrySet", name := "size", desc := "()I" } : Jvm.MethodName)) ∈ lw_tbl := lw_at lw_m10 118 rfl
theorem q2359 : (Jvm.Cond.code ({ cls := "java/util/TreeMap$EntrySet", name := "size", desc := "()I" } : Jvm.MethodName) prog_84_method_5_code (1 : Nat) (Option.some Jvm.ClassFile.FieldType.int)) ∈ lw_all := lw_g (lw_at lw_m10 119 rfl) rfl
theorem q2360 : (Jvm.Cond.methodLink "java/util/TreeMap$EntrySet" (48 : Nat) ({ cls := "java/util/TreeMap", name := "size", desc := "()I" } : Jvm.MethodName)) ∈ lw_all := lw_g (lw_at lw_m10 120 rfl) rfl
theorem q2361 : (Jvm.Cond.selects "java/util/TreeMap$KeySet" ({ cls := "java/util/Set", name := "size", desc := "()I" } : Jvm.MethodName) ({ cls := "java/util/TreeMap$KeySet", name := "size", desc := "()I" } : Jvm.MethodName)) ∈ lw_all := lw_g (lw_at lw_m10 121 rfl) rfl
theorem q2362 : (Jvm.Cond.unhidden "java/util/TreeMap$KeySet" "size" "()I") ∈ lw_tbl := lw_at lw_m10 122 rfl
theorem q2363 : (Jvm.Cond.instanceMethod ({ cls := "java/util/TreeMap$KeySet", name := "size", desc := "()I" } : Jvm.MethodName)) ∈ lw_all := lw_g (lw_at lw_m10 123 rfl) rfl
theorem q2364 : (Jvm.Cond.publicMethod ({ cls := "java/util/TreeMap$KeySet", name := "size", desc := "()I" } : Jvm.MethodName)) ∈ lw_tbl := lw_at lw_m10 124 rfl
theorem q2365 : (Jvm.Cond.code ({ cls := "java/util/TreeMap$KeySet", name := "size", desc := "()I" } : Jvm.MethodName) prog_86_method_4_code (1 : Nat) (Option.some Jvm.ClassFile.FieldType.int)) ∈ lw_all := lw_g (lw_at lw_m10 125 rfl) rfl
theorem q2366 : (Jvm.Cond.interfaceEntry "java/util/TreeMap$KeySet" (26 : Nat)) ∈ lw_tbl := lw_at lw_m10 126 rfl
theorem q2367 : (Jvm.Cond.publicMethod ({ cls := "java/util/Map", name := "size", desc := "()I" } : Jvm.MethodName)) ∈ lw_tbl := lw_at lw_m10 127 rfl
theorem q2368 : (Jvm.Cond.declares ({ cls := "java/util/Map", name := "size", desc := "()I" } : Jvm.MethodName)) ∈ lw_tbl := lw_at lw_m10 128 rfl
theorem q2369 : (Jvm.Cond.selects "java/util/TreeMap" ({ cls := "java/util/Map", name := "size", desc := "()I" } : Jvm.MethodName) ({ cls := "java/util/TreeMap", name := "size", desc := "()I" } : Jvm.MethodName)) ∈ lw_all := lw_g (lw_at lw_m10 129 rfl) rfl
theorem q2370 : (Jvm.Cond.unhidden "java/util/TreeMap" "size" "()I") ∈ lw_tbl := lw_at lw_m10 130 rfl
theorem q2371 : (Jvm.Cond.publicMethod ({ cls := "java/util/TreeMap", name := "size", desc := "()I" } : Jvm.MethodName)) ∈ lw_tbl := lw_at lw_m10 131 rfl
theorem q2372 : (Jvm.Cond.selects "java/util/TreeMap$AscendingSubMap" ({ cls := "java/util/Map", name := "size", desc := "()I" } : Jvm.MethodName) ({ cls := "java/util/TreeMap$NavigableSubMap", name := "size", desc := "()I" } : Jvm.MethodName)) ∈ lw_all := lw_g (lw_at lw_m10 132 rfl) rfl
theorem q2373 : (Jvm.Cond.unhidden "java/util/TreeMap$AscendingSubMap" "size" "()I") ∈ lw_tbl := lw_at lw_m10 133 rfl
theorem q2374 : (Jvm.Cond.publicMethod ({ cls := "java/util/TreeMap$NavigableSubMap", name := "size", desc := "()I" } : Jvm.MethodName)) ∈ lw_tbl := lw_at lw_m10 134 rfl
theorem q2375 : (Jvm.Cond.declares ({ cls := "java/util/AbstractMap", name := "size", desc := "()I" } : Jvm.MethodName)) ∈ lw_tbl := lw_at lw_m10 135 rfl
theorem q2376 : (Jvm.Cond.selects "java/util/TreeMap$AscendingSubMap" ({ cls := "java/util/Map", name := "isEmpty", desc := "()Z" } : Jvm.MethodName) ({ cls := "java/util/TreeMap$NavigableSubMap", name := "isEmpty", desc := "()Z" } : Jvm.MethodName)) ∈ lw_all := lw_g (lw_at lw_m10 136 rfl) rfl
theorem q2377 : (Jvm.Cond.unhidden "java/util/TreeMap$AscendingSubMap" "isEmpty" "()Z") ∈ lw_tbl := lw_at lw_m10 137 rfl
theorem q2378 : (Jvm.Cond.instanceMethod ({ cls := "java/util/TreeMap$NavigableSubMap", name := "isEmpty", desc := "()Z" } : Jvm.MethodName)) ∈ lw_all := lw_g (lw_at lw_m10 138 rfl) rfl
theorem q2379 : (Jvm.Cond.publicMethod ({ cls := "java/util/TreeMap$NavigableSubMap", name := "isEmpty", desc := "()Z" } : Jvm.MethodName)) ∈ lw_tbl := lw_at lw_m10 139 rfl
theorem q2380 : (Jvm.Cond.code ({ cls := "java/util/TreeMap$NavigableSubMap", name := "isEmpty", desc := "()Z" } : Jvm.MethodName) prog_87_method_24_code (1 : Nat) (Option.some Jvm.ClassFile.FieldType.boolean)) ∈ lw_all := lw_g (lw_at lw_m10 140 rfl) rfl
theorem q2381 : (Jvm.Cond.methodLink "java/util/TreeMap$NavigableSubMap" (90 : Nat) ({ cls := "java/util/TreeMap", name := "isEmpty", desc := "()Z" } : Jvm.MethodName)) ∈ lw_all := lw_g (lw_at lw_m10 141 rfl) rfl
theorem q2382 : (Jvm.Cond.sameMethod "java/util/TreeMap" "java/util/AbstractMap" "isEmpty" "()Z") ∈ lw_all := lw_g (lw_at lw_m10 142 rfl) rfl
theorem q2383 : (Jvm.Cond.declares ({ cls := "java/util/AbstractMap", name := "isEmpty", desc := "()Z" } : Jvm.MethodName)) ∈ lw_tbl := lw_at lw_m10 143 rfl
theorem q2384 : (Jvm.Cond.selects "java/util/TreeMap" ({ cls := "java/util/TreeMap", name := "isEmpty", desc := "()Z" } : Jvm.MethodName) ({ cls := "java/util/AbstractMap", name := "isEmpty", desc := "()Z" } : Jvm.MethodName)) ∈ lw_all := lw_g (lw_at lw_m10 144 rfl) rfl
theorem q2385 : (Jvm.Cond.interfaceEntry "java/util/TreeMap$NavigableSubMap" (98 : Nat)) ∈ lw_tbl := lw_at lw_m10 145 rfl
theorem q2386 : (Jvm.Cond.methodLink "java/util/TreeMap$NavigableSubMap" (98 : Nat) ({ cls := "java/util/Set", name := "isEmpty", desc := "()Z" } : Jvm.MethodName)) ∈ lw_all := lw_g (lw_at lw_m10 146 rfl) rfl
theorem q2387 : (Jvm.Cond.interfaceMethod "java/util/Set" "java/util/Set" "isEmpty" "()Z") ∈ lw_tbl := lw_at lw_m10 147 rfl
theorem q2388 : (Jvm.Cond.declares ({ cls := "java/util/Set", name := "isEmpty", desc := "()Z" } : Jvm.MethodName)) ∈ lw_tbl := lw_at lw_m10 148 rfl
theorem q2389 : (Jvm.Cond.selects "java/util/TreeMap$AscendingSubMap$AscendingEntrySetView" ({ cls := "java/util/Set", name := "isEmpty", desc := "()Z" } : Jvm.MethodName) ({ cls := "java/util/TreeMap$NavigableSubMap$EntrySetView", name := "isEmpty", desc := "()Z" } : Jvm.MethodName)) ∈ lw_all := lw_g (lw_at lw_m10 149 rfl) rfl
theorem q2390 : (Jvm.Cond.unhidden "java/util/TreeMap$AscendingSubMap$AscendingEntrySetView" "isEmpty" "()Z") ∈ lw_tbl := lw_at lw_m10 150 rfl
theorem q2391 : (Jvm.Cond.instanceMethod ({ cls := "java/util/TreeMap$NavigableSubMap$EntrySetView", name := "isEmpty", desc := "()Z" } : Jvm.MethodName)) ∈ lw_all := lw_g (lw_at lw_m10 151 rfl) rfl
theorem q2392 : (Jvm.Cond.publicMethod ({ cls := "java/util/TreeMap$NavigableSubMap$EntrySetView", name := "isEmpty", desc := "()Z" } : Jvm.MethodName)) ∈ lw_tbl := lw_at lw_m10 152 rfl
theorem q2393 : (Jvm.Cond.code ({ cls := "java/util/TreeMap$NavigableSubMap$EntrySetView", name := "isEmpty", desc := "()Z" } : Jvm.MethodName) prog_88_method_3_code (2 : Nat) (Option.some Jvm.ClassFile.FieldType.boolean)) ∈ lw_all := lw_g (lw_at lw_m10 153 rfl) rfl
theorem q2394 : (Jvm.Cond.methodLink "java/util/TreeMap$NavigableSubMap$EntrySetView" (55 : Nat) ({ cls := "java/util/TreeMap$NavigableSubMap", name := "absLowest", desc := "()Ljava/util/TreeMap$Entry;" } : Jvm.MethodName)) ∈ lw_all := lw_g (lw_at lw_m10 154 rfl) rfl
theorem q2395 : (Jvm.Cond.methodLink "java/util/TreeMap$NavigableSubMap$EntrySetView" (65 : Nat) ({ cls := "java/util/TreeMap$NavigableSubMap", name := "tooHigh", desc := "(Ljava/lang/Object;)Z" } : Jvm.MethodName)) ∈ lw_all := lw_g (lw_at lw_m10 155 rfl) rfl
theorem q2396 : (Jvm.Cond.selects "java/util/TreeMap$EntrySet" ({ cls := "java/util/Set", name := "isEmpty", desc := "()Z" } : Jvm.MethodName) ({ cls := "java/util/AbstractCollection", name := "isEmpty", desc := "()Z" } : Jvm.MethodName)) ∈ lw_all := lw_g (lw_at lw_m10 156 rfl) rfl
theorem q2397 : (Jvm.Cond.unhidden "java/util/TreeMap$EntrySet" "isEmpty" "()Z") ∈ lw_tbl := lw_at lw_m10 157 rfl
theorem q2398 : (Jvm.Cond.instanceMethod ({ cls := "java/util/AbstractCollection", name := "isEmpty", desc := "()Z" } : Jvm.MethodName)) ∈ lw_all := lw_g (lw_at lw_m10 158 rfl) rfl
theorem q2399 : (Jvm.Cond.publicMethod ({ cls := "java/util/AbstractCollection", name := "isEmpty", desc := "()Z" } : Jvm.MethodName)) ∈ lw_tbl := lw_at lw_m10 159 rfl
theorem q2400 : (Jvm.Cond.code ({ cls := "java/util/AbstractCollection", name := "isEmpty", desc := "()Z" } : Jvm.MethodName) prog_53_method_4_code (1 : Nat) (Option.some Jvm.ClassFile.FieldType.boolean)) ∈ lw_all := lw_g (lw_at lw_m10 160 rfl) rfl
theorem q2401 : (Jvm.Cond.methodLink "java/util/AbstractCollection" (7 : Nat) ({ cls := "java/util/AbstractCollection", name := "size", desc := "()I" } : Jvm.MethodName)) ∈ lw_all := lw_g (lw_at lw_m10 161 rfl) rfl
theorem q2402 : (Jvm.Cond.declares ({ cls := "java/util/AbstractCollection", name := "size", desc := "()I" } : Jvm.MethodName)) ∈ lw_tbl := lw_at lw_m10 162 rfl
theorem q2403 : (Jvm.Cond.sameMethod "java/util/AbstractCollection" "java/util/AbstractCollection" "size" "()I") ∈ lw_all := lw_g (lw_at lw_m10 163 rfl) rfl
theorem q2404 : (Jvm.Cond.selects "java/util/AbstractMap$2" ({ cls := "java/util/AbstractCollection", name := "size", desc := "()I" } : Jvm.MethodName) ({ cls := "java/util/AbstractMap$2", name := "size", desc := "()I" } : Jvm.MethodName)) ∈ lw_all := lw_g (lw_at lw_m10 164 rfl) rfl
theorem q2405 : (Jvm.Cond.instanceMethod ({ cls := "java/util/AbstractMap$2", name := "size", desc := "()I" } : Jvm.MethodName)) ∈ lw_all := lw_g (lw_at lw_m10 165 rfl) rfl
theorem q2406 : (Jvm.Cond.code ({ cls := "java/util/AbstractMap$2", name := "size", desc := "()I" } : Jvm.MethodName) prog_56_method_3_code (1 : Nat) (Option.some Jvm.ClassFile.FieldType.int)) ∈ lw_all := lw_g (lw_at lw_m10 166 rfl) rfl
theorem q2407 : (Jvm.Cond.methodLink "java/util/AbstractMap$2" (18 : Nat) ({ cls := "java/util/AbstractMap", name := "size", desc := "()I" } : Jvm.MethodName)) ∈ lw_all := lw_g (lw_at lw_m10 167 rfl) rfl
theorem q2408 : (Jvm.Cond.selects "java/util/ArrayList" ({ cls := "java/util/AbstractCollection", name := "size", desc := "()I" } : Jvm.MethodName) ({ cls := "java/util/ArrayList", name := "size", desc := "()I" } : Jvm.MethodName)) ∈ lw_all := lw_g (lw_at lw_m10 168 rfl) rfl
theorem q2409 : (Jvm.Cond.selects "java/util/TreeMap$AscendingSubMap$AscendingEntrySetView" ({ cls := "java/util/AbstractCollection", name := "size", desc := "()I" } : Jvm.MethodName) ({ cls := "java/util/TreeMap$NavigableSubMap$EntrySetView", name := "size", desc := "()I" } : Jvm.MethodName)) ∈ lw_all := lw_g (lw_at lw_m10 169 rfl) rfl
theorem q2410 : (Jvm.Cond.selects "java/util/TreeMap$EntrySet" ({ cls := "java/util/AbstractCollection", name := "size", desc := "()I" } : Jvm.MethodName) ({ cls := "java/util/TreeMap$EntrySet", name := "size", desc := "()I" } : Jvm.MethodName)) ∈ lw_all := lw_g (lw_at lw_m10 170 rfl) rfl
theorem q2411 : (Jvm.Cond.selects "java/util/TreeMap$KeySet" ({ cls := "java/util/AbstractCollection", name := "size", desc := "()I" } : Jvm.MethodName) ({ cls := "java/util/TreeMap$KeySet", name := "size", desc := "()I" } : Jvm.MethodName)) ∈ lw_all := lw_g (lw_at lw_m10 171 rfl) rfl
theorem q2412 : (Jvm.Cond.selects "java/util/TreeMap$Values" ({ cls := "java/util/AbstractCollection", name := "size", desc := "()I" } : Jvm.MethodName) ({ cls := "java/util/TreeMap$Values", name := "size", desc := "()I" } : Jvm.MethodName)) ∈ lw_all := lw_g (lw_at lw_m10 172 rfl) rfl
theorem q2413 : (Jvm.Cond.instanceMethod ({ cls := "java/util/TreeMap$Values", name := "size", desc := "()I" } : Jvm.MethodName)) ∈ lw_all := lw_g (lw_at lw_m10 173 rfl) rfl
theorem q2414 : (Jvm.Cond.code ({ cls := "java/util/TreeMap$Values", name := "size", desc := "()I" } : Jvm.MethodName) prog_94_method_3_code (1 : Nat) (Option.some Jvm.ClassFile.FieldType.int)) ∈ lw_all := lw_g (lw_at lw_m10 174 rfl) rfl
theorem q2415 : (Jvm.Cond.methodLink "java/util/TreeMap$Values" (24 : Nat) ({ cls := "java/util/TreeMap", name := "size", desc := "()I" } : Jvm.MethodName)) ∈ lw_all := lw_g (lw_at lw_m10 175 rfl) rfl
theorem q2416 : (Jvm.Cond.selects "java/util/TreeMap$KeySet" ({ cls := "java/util/Set", name := "isEmpty", desc := "()Z" } : Jvm.MethodName) ({ cls := "java/util/TreeMap$KeySet", name := "isEmpty", desc := "()Z" } : Jvm.MethodName)) ∈ lw_all := lw_g (lw_at lw_m10 176 rfl) rfl
theorem q2417 : (Jvm.Cond.unhidden "java/util/TreeMap$KeySet" "isEmpty" "()Z") ∈ lw_tbl := lw_at lw_m10 177 rfl
theorem q2418 : (Jvm.Cond.instanceMethod ({ cls := "java/util/TreeMap$KeySet", name := "isEmpty", desc := "()Z" } : Jvm.MethodName)) ∈ lw_all := lw_g (lw_at lw_m10 178 rfl) rfl
theorem q2419 : (Jvm.Cond.publicMethod ({ cls := "java/util/TreeMap$KeySet", name := "isEmpty", desc := "()Z" } : Jvm.MethodName)) ∈ lw_tbl := lw_at lw_m10 179 rfl
theorem q2420 : (Jvm.Cond.code ({ cls := "java/util/TreeMap$KeySet", name := "isEmpty", desc := "()Z" } : Jvm.MethodName) prog_86_method_5_code (1 : Nat) (Option.some Jvm.ClassFile.FieldType.boolean)) ∈ lw_all := lw_g (lw_at lw_m10 180 rfl) rfl
theorem q2421 : (Jvm.Cond.interfaceEntry "java/util/TreeMap$KeySet" (32 : Nat)) ∈ lw_tbl := lw_at lw_m10 181 rfl
theorem q2422 : (Jvm.Cond.publicMethod ({ cls := "java/util/Map", name := "isEmpty", desc := "()Z" } : Jvm.MethodName)) ∈ lw_tbl := lw_at lw_m10 182 rfl
theorem q2423 : (Jvm.Cond.stringRef "MasterTree" (291 : Nat) "the value cannot be added") ∈ lw_tbl := lw_at lw_m10 183 rfl
theorem q2424 : (Jvm.Cond.fieldLink "MasterTree" (293 : Nat) "MasterTree$Kind" "VALUE" "LMasterTree$Kind;") ∈ lw_all := lw_g (lw_at lw_m10 184 rfl) rfl
theorem q2425 : (Jvm.Cond.laysStatic "MasterTree$Kind" "VALUE" "LMasterTree$Kind;") ∈ lw_tbl := lw_at lw_m10 185 rfl
theorem q2426 : (Jvm.Cond.methodLink "MasterTree" (296 : Nat) ({ cls := "MasterTree", name := "makes", desc := "(LMasterTree$Master;LMasterTree$Kind;III)V" } : Jvm.MethodName)) ∈ lw_all := lw_g (lw_at lw_m10 186 rfl) rfl
theorem q2427 : (Jvm.Cond.privateMethod ({ cls := "MasterTree", name := "makes", desc := "(LMasterTree$Master;LMasterTree$Kind;III)V" } : Jvm.MethodName)) ∈ lw_tbl := lw_at lw_m10 187 rfl
theorem q2428 : (Jvm.Cond.instanceMethod ({ cls := "MasterTree", name := "makes", desc := "(LMasterTree$Master;LMasterTree$Kind;III)V" } : Jvm.MethodName)) ∈ lw_all := lw_g (lw_at lw_m10 188 rfl) rfl
theorem q2429 : (Jvm.Cond.code ({ cls := "MasterTree", name := "makes", desc := "(LMasterTree$Master;LMasterTree$Kind;III)V" } : Jvm.MethodName) prog_1_method_21_code (6 : Nat) (Option.none : Option Jvm.ClassFile.FieldType)) ∈ lw_all := lw_g (lw_at lw_m10 189 rfl) rfl
theorem q2430 : (Jvm.Cond.interfaceEntry "MasterTree" (299 : Nat)) ∈ lw_tbl := lw_at lw_m10 190 rfl
theorem q2431 : (Jvm.Cond.methodLink "MasterTree" (299 : Nat) ({ cls := "java/util/Map", name := "size", desc := "()I" } : Jvm.MethodName)) ∈ lw_all := lw_g (lw_at lw_m10 191 rfl) rfl
theorem q2432 : (Jvm.Cond.interfaceMethod "java/util/Map" "java/util/Map" "size" "()I") ∈ lw_tbl := lw_at lw_m10 192 rfl
theorem q2433 : (Jvm.Cond.methodLink "MasterTreeLaw" (174 : Nat) ({ cls := "MasterTreeLaw", name := "removeValue", desc := "(LMasterTree;IIII[J)I" } : Jvm.MethodName)) ∈ lw_all := lw_g (lw_at lw_m10 193 rfl) rfl
theorem q2434 : (Jvm.Cond.static ({ cls := "MasterTreeLaw", name := "removeValue", desc := "(LMasterTree;IIII[J)I" } : Jvm.MethodName)) ∈ lw_all := lw_g (lw_at lw_m10 194 rfl) rfl
theorem q2435 : (Jvm.Cond.codeWith ({ cls := "MasterTreeLaw", name := "removeValue", desc := "(LMasterTree;IIII[J)I" } : Jvm.MethodName) method_9_code (7 : Nat) (Option.some Jvm.ClassFile.FieldType.int) [((0 : Nat), (14 : Nat), (17 : Nat), (19 : Nat)), ((0 : Nat), (14 : Nat), (21 : Nat), (28 : Nat)), ((0 : Nat), (14 : Nat), (25 : Nat), (13 : Nat))]) ∈ lw_all := lw_g (lw_at lw_m10 195 rfl) rfl
theorem q2436 : (Jvm.Cond.methodLink "MasterTreeLaw" (37 : Nat) ({ cls := "MasterTree", name := "removeValue", desc := "(IIII)I" } : Jvm.MethodName)) ∈ lw_all := lw_g (lw_at lw_m10 196 rfl) rfl
theorem q2437 : (Jvm.Cond.instanceMethod ({ cls := "MasterTree", name := "removeValue", desc := "(IIII)I" } : Jvm.MethodName)) ∈ lw_all := lw_g (lw_at lw_m10 197 rfl) rfl
theorem q2438 : (Jvm.Cond.selects "MasterTree" ({ cls := "MasterTree", name := "removeValue", desc := "(IIII)I" } : Jvm.MethodName) ({ cls := "MasterTree", name := "removeValue", desc := "(IIII)I" } : Jvm.MethodName)) ∈ lw_all := lw_g (lw_at lw_m10 198 rfl) rfl
theorem q2439 : (Jvm.Cond.code ({ cls := "MasterTree", name := "removeValue", desc := "(IIII)I" } : Jvm.MethodName) prog_1_method_26_code (8 : Nat) (Option.some Jvm.ClassFile.FieldType.int)) ∈ lw_all := lw_g (lw_at lw_m10 199 rfl) rfl
theorem q2440 : (Jvm.Cond.stringRef "MasterTree" (300 : Nat) "the value cannot be removed") ∈ lw_tbl := lw_at lw_m10 200 rfl
theorem q2441 : (Jvm.Cond.fieldLink "MasterTree" (302 : Nat) "MasterTree$Kind" "REMOVE" "LMasterTree$Kind;") ∈ lw_all := lw_g (lw_at lw_m10 201 rfl) rfl
theorem q2442 : (Jvm.Cond.laysStatic "MasterTree$Kind" "REMOVE" "LMasterTree$Kind;") ∈ lw_tbl := lw_at lw_m10 202 rfl
theorem q2443 : (Jvm.Cond.methodLink "MasterTreeLaw" (177 : Nat) ({ cls := "MasterTreeLaw", name := "replace", desc := "(LMasterTree;IIII[J)I" } : Jvm.MethodName)) ∈ lw_all := lw_g (lw_at lw_m10 203 rfl) rfl
theorem q2444 : (Jvm.Cond.static ({ cls := "MasterTreeLaw", name := "replace", desc := "(LMasterTree;IIII[J)I" } : Jvm.MethodName)) ∈ lw_all := lw_g (lw_at lw_m10 204 rfl) rfl
theorem q2445 : (Jvm.Cond.codeWith ({ cls := "MasterTreeLaw", name := "replace", desc := "(LMasterTree;IIII[J)I" } : Jvm.MethodName) method_10_code (7 : Nat) (Option.some Jvm.ClassFile.FieldType.int) [((0 : Nat), (14 : Nat), (17 : Nat), (19 : Nat)), ((0 : Nat), (14 : Nat), (21 : Nat), (28 : Nat)), ((0 : Nat), (14 : Nat), (25 : Nat), (13 : Nat))]) ∈ lw_all := lw_g (lw_at lw_m10 205 rfl) rfl
theorem q2446 : (Jvm.Cond.methodLink "MasterTreeLaw" (40 : Nat) ({ cls := "MasterTree", name := "replace", desc := "(IIII)I" } : Jvm.MethodName)) ∈ lw_all := lw_g (lw_at lw_m10 206 rfl) rfl
theorem q2447 : (Jvm.Cond.instanceMethod ({ cls := "MasterTree", name := "replace", desc := "(IIII)I" } : Jvm.MethodName)) ∈ lw_all := lw_g (lw_at lw_m10 207 rfl) rfl
theorem q2448 : (Jvm.Cond.selects "MasterTree" ({ cls := "MasterTree", name := "replace", desc := "(IIII)I" } : Jvm.MethodName) ({ cls := "MasterTree", name := "replace", desc := "(IIII)I" } : Jvm.MethodName)) ∈ lw_all := lw_g (lw_at lw_m10 208 rfl) rfl
theorem q2449 : (Jvm.Cond.code ({ cls := "MasterTree", name := "replace", desc := "(IIII)I" } : Jvm.MethodName) prog_1_method_27_code (8 : Nat) (Option.some Jvm.ClassFile.FieldType.int)) ∈ lw_all := lw_g (lw_at lw_m10 209 rfl) rfl
theorem q2450 : (Jvm.Cond.stringRef "MasterTree" (305 : Nat) "the attribute is not allowed") ∈ lw_tbl := lw_at lw_m10 210 rfl
theorem q2451 : (Jvm.Cond.fieldLink "MasterTree" (307 : Nat) "MasterTree$Kind" "REPLACE" "LMasterTree$Kind;") ∈ lw_all := lw_g (lw_at lw_m10 211 rfl) rfl
theorem q2452 : (Jvm.Cond.laysStatic "MasterTree$Kind" "REPLACE" "LMasterTree$Kind;") ∈ lw_tbl := lw_at lw_m10 212 rfl
theorem q2453 : (Jvm.Cond.methodLink "MasterTreeLaw" (180 : Nat) ({ cls := "MasterTreeLaw", name := "rename", desc := "(LMasterTree;III[J)I" } : Jvm.MethodName)) ∈ lw_all := lw_g (lw_at lw_m10 213 rfl) rfl
theorem q2454 : (Jvm.Cond.static ({ cls := "MasterTreeLaw", name := "rename", desc := "(LMasterTree;III[J)I" } : Jvm.MethodName)) ∈ lw_all := lw_g (lw_at lw_m10 214 rfl) rfl
theorem q2455 : (Jvm.Cond.codeWith ({ cls := "MasterTreeLaw", name := "rename", desc := "(LMasterTree;III[J)I" } : Jvm.MethodName) method_11_code (6 : Nat) (Option.some Jvm.ClassFile.FieldType.int) [((0 : Nat), (12 : Nat), (15 : Nat), (19 : Nat)), ((0 : Nat), (12 : Nat), (19 : Nat), (28 : Nat)), ((0 : Nat), (12 : Nat), (23 : Nat), (13 : Nat))]) ∈ lw_all := lw_g (lw_at lw_m10 215 rfl) rfl
theorem q2456 : (Jvm.Cond.methodLink "MasterTreeLaw" (43 : Nat) ({ cls := "MasterTree", name := "rename", desc := "(III)I" } : Jvm.MethodName)) ∈ lw_all := lw_g (lw_at lw_m10 216 rfl) rfl
theorem q2457 : (Jvm.Cond.instanceMethod ({ cls := "MasterTree", name := "rename", desc := "(III)I" } : Jvm.MethodName)) ∈ lw_all := lw_g (lw_at lw_m10 217 rfl) rfl
theorem q2458 : (Jvm.Cond.selects "MasterTree" ({ cls := "MasterTree", name := "rename", desc := "(III)I" } : Jvm.MethodName) ({ cls := "MasterTree", name := "rename", desc := "(III)I" } : Jvm.MethodName)) ∈ lw_all := lw_g (lw_at lw_m10 218 rfl) rfl
theorem q2459 : (Jvm.Cond.code ({ cls := "MasterTree", name := "rename", desc := "(III)I" } : Jvm.MethodName) prog_1_method_28_code (6 : Nat) (Option.some Jvm.ClassFile.FieldType.int)) ∈ lw_all := lw_g (lw_at lw_m10 219 rfl) rfl
theorem q2460 : (Jvm.Cond.methodLink "MasterTree" (310 : Nat) ({ cls := "MasterTree$Master", name := "shownAt", desc := "(I)I" } : Jvm.MethodName)) ∈ lw_all := lw_g (lw_at lw_m10 220 rfl) rfl
theorem q2461 : (Jvm.Cond.stringRef "MasterTree" (313 : Nat) "there is such a name") ∈ lw_tbl := lw_at lw_m10 221 rfl
theorem q2462 : (Jvm.Cond.methodLink "MasterTree" (315 : Nat) ({ cls := "MasterTree$Master", name := "shownName", desc := "(I)I" } : Jvm.MethodName)) ∈ lw_all := lw_g (lw_at lw_m10 222 rfl) rfl
theorem q2463 : (Jvm.Cond.fieldLink "MasterTree" (318 : Nat) "MasterTree$Kind" "NAME" "LMasterTree$Kind;") ∈ lw_all := lw_g (lw_at lw_m10 223 rfl) rfl
theorem q2464 : (Jvm.Cond.laysStatic "MasterTree$Kind" "NAME" "LMasterTree$Kind;") ∈ lw_tbl := lw_at lw_m10 224 rfl
theorem q2465 : (Jvm.Cond.methodLink "MasterTreeLaw" (183 : Nat) ({ cls := "MasterTreeLaw", name := "move", desc := "(LMasterTree;III[J)I" } : Jvm.MethodName)) ∈ lw_all := lw_g (lw_at lw_m10 225 rfl) rfl
theorem q2466 : (Jvm.Cond.static ({ cls := "MasterTreeLaw", name := "move", desc := "(LMasterTree;III[J)I" } : Jvm.MethodName)) ∈ lw_all := lw_g (lw_at lw_m10 226 rfl) rfl
theorem q2467 : (Jvm.Cond.codeWith ({ cls := "MasterTreeLaw", name := "move", desc := "(LMasterTree;III[J)I" } : Jvm.MethodName) method_12_code (6 : Nat) (Option.some Jvm.ClassFile.FieldType.int) [((0 : Nat), (12 : Nat), (15 : Nat), (19 : Nat)), ((0 : Nat), (12 : Nat), (19 : Nat), (13 : Nat))]) ∈ lw_all := lw_g (lw_at lw_m10 227 rfl) rfl
theorem q2468 : (Jvm.Cond.methodLink "MasterTreeLaw" (46 : Nat) ({ cls := "MasterTree", name := "move", desc := "(III)I" } : Jvm.MethodName)) ∈ lw_all := lw_g (lw_at lw_m10 228 rfl) rfl
theorem q2469 : (Jvm.Cond.instanceMethod ({ cls := "MasterTree", name := "move", desc := "(III)I" } : Jvm.MethodName)) ∈ lw_all := lw_g (lw_at lw_m10 229 rfl) rfl
theorem q2470 : (Jvm.Cond.selects "MasterTree" ({ cls := "MasterTree", name := "move", desc := "(III)I" } : Jvm.MethodName) ({ cls := "MasterTree", name := "move", desc := "(III)I" } : Jvm.MethodName)) ∈ lw_all := lw_g (lw_at lw_m10 230 rfl) rfl
theorem q2471 : (Jvm.Cond.code ({ cls := "MasterTree", name := "move", desc := "(III)I" } : Jvm.MethodName) prog_1_method_29_code (7 : Nat) (Option.some Jvm.ClassFile.FieldType.int)) ∈ lw_all := lw_g (lw_at lw_m10 231 rfl) rfl
theorem q2472 : (Jvm.Cond.stringRef "MasterTree" (327 : Nat) "the entry cannot be moved there") ∈ lw_tbl := lw_at lw_m10 232 rfl
theorem q2473 : (Jvm.Cond.methodLink "MasterTreeLaw" (186 : Nat) ({ cls := "MasterTreeLaw", name := "delete", desc := "(LMasterTree;II[J)I" } : Jvm.MethodName)) ∈ lw_all := lw_g (lw_at lw_m10 233 rfl) rfl
theorem q2474 : (Jvm.Cond.static ({ cls := "MasterTreeLaw", name := "delete", desc := "(LMasterTree;II[J)I" } : Jvm.MethodName)) ∈ lw_all := lw_g (lw_at lw_m10 234 rfl) rfl
theorem q2475 : (Jvm.Cond.codeWith ({ cls := "MasterTreeLaw", name := "delete", desc := "(LMasterTree;II[J)I" } : Jvm.MethodName) method_13_code (5 : Nat) (Option.some Jvm.ClassFile.FieldType.int) [((0 : Nat), (10 : Nat), (13 : Nat), (19 : Nat)), ((0 : Nat), (10 : Nat), (17 : Nat), (13 : Nat))]) ∈ lw_all := lw_g (lw_at lw_m10 235 rfl) rfl
theorem q2476 : (Jvm.Cond.methodLink "MasterTreeLaw" (49 : Nat) ({ cls := "MasterTree", name := "delete", desc := "(II)I" } : Jvm.MethodName)) ∈ lw_all := lw_g (lw_at lw_m10 236 rfl) rfl
theorem q2477 : (Jvm.Cond.instanceMethod ({ cls := "MasterTree", name := "delete", desc := "(II)I" } : Jvm.MethodName)) ∈ lw_all := lw_g (lw_at lw_m10 237 rfl) rfl
theorem q2478 : (Jvm.Cond.selects "MasterTree" ({ cls := "MasterTree", name := "delete", desc := "(II)I" } : Jvm.MethodName) ({ cls := "MasterTree", name := "delete", desc := "(II)I" } : Jvm.MethodName)) ∈ lw_all := lw_g (lw_at lw_m10 238 rfl) rfl
theorem q2479 : (Jvm.Cond.code ({ cls := "MasterTree", name := "delete", desc := "(II)I" } : Jvm.MethodName) prog_1_method_30_code (4 : Nat) (Option.some Jvm.ClassFile.FieldType.int)) ∈ lw_all := lw_g (lw_at lw_m10 239 rfl) rfl
theorem q2480 : (Jvm.Cond.methodLink "MasterTree" (329 : Nat) ({ cls := "MasterTree$Master", name := "next", desc := "(II)I" } : Jvm.MethodName)) ∈ lw_all := lw_g (lw_at lw_m11 0 rfl) rfl
theorem q2481 : (Jvm.Cond.instanceMethod ({ cls := "MasterTree$Master", name := "next", desc := "(II)I" } : Jvm.MethodName)) ∈ lw_all := lw_g (lw_at lw_m11 1 rfl) rfl
theorem q2482 : (Jvm.Cond.selects "MasterTree$Master" ({ cls := "MasterTree$Master", name := "next", desc := "(II)I" } : Jvm.MethodName) ({ cls := "MasterTree$Master", name := "next", desc := "(II)I" } : Jvm.MethodName)) ∈ lw_all := lw_g (lw_at lw_m11 2 rfl) rfl
theorem q2483 : (Jvm.Cond.code ({ cls := "MasterTree$Master", name := "next", desc := "(II)I" } : Jvm.MethodName) prog_21_method_11_code (6 : Nat) (Option.some Jvm.ClassFile.FieldType.int)) ∈ lw_all := lw_g (lw_at lw_m11 3 rfl) rfl
theorem q2484 : (Jvm.Cond.stringRef "MasterTree" (332 : Nat) "there are entries beneath it") ∈ lw_tbl := lw_at lw_m11 4 rfl
theorem q2485 : (Jvm.Cond.fieldLink "MasterTree" (334 : Nat) "MasterTree$Kind" "DELETE" "LMasterTree$Kind;") ∈ lw_all := lw_g (lw_at lw_m11 5 rfl) rfl
theorem q2486 : (Jvm.Cond.laysStatic "MasterTree$Kind" "DELETE" "LMasterTree$Kind;") ∈ lw_tbl := lw_at lw_m11 6 rfl
theorem q2487 : (Jvm.Cond.methodLink "MasterTree" (337 : Nat) ({ cls := "MasterTree$Master", name := "marks", desc := "(Z)J" } : Jvm.MethodName)) ∈ lw_all := lw_g (lw_at lw_m11 7 rfl) rfl
theorem q2488 : (Jvm.Cond.instanceMethod ({ cls := "MasterTree$Master", name := "marks", desc := "(Z)J" } : Jvm.MethodName)) ∈ lw_all := lw_g (lw_at lw_m11 8 rfl) rfl
theorem q2489 : (Jvm.Cond.selects "MasterTree$Master" ({ cls := "MasterTree$Master", name := "marks", desc := "(Z)J" } : Jvm.MethodName) ({ cls := "MasterTree$Master", name := "marks", desc := "(Z)J" } : Jvm.MethodName)) ∈ lw_all := lw_g (lw_at lw_m11 9 rfl) rfl
theorem q2490 : (Jvm.Cond.code ({ cls := "MasterTree$Master", name := "marks", desc := "(Z)J" } : Jvm.MethodName) prog_21_method_17_code (6 : Nat) (Option.some Jvm.ClassFile.FieldType.long)) ∈ lw_all := lw_g (lw_at lw_m11 10 rfl) rfl
theorem q2491 : (Jvm.Cond.methodLink "MasterTree$Master" (255 : Nat) ({ cls := "MasterTree$Master", name := "isKnownToAll", desc := "(LMasterTree$Entry;)Z" } : Jvm.MethodName)) ∈ lw_all := lw_g (lw_at lw_m11 11 rfl) rfl
theorem q2492 : (Jvm.Cond.privateMethod ({ cls := "MasterTree$Master", name := "isKnownToAll", desc := "(LMasterTree$Entry;)Z" } : Jvm.MethodName)) ∈ lw_tbl := lw_at lw_m11 12 rfl
theorem q2493 : (Jvm.Cond.instanceMethod ({ cls := "MasterTree$Master", name := "isKnownToAll", desc := "(LMasterTree$Entry;)Z" } : Jvm.MethodName)) ∈ lw_all := lw_g (lw_at lw_m11 13 rfl) rfl
theorem q2494 : (Jvm.Cond.code ({ cls := "MasterTree$Master", name := "isKnownToAll", desc := "(LMasterTree$Entry;)Z" } : Jvm.MethodName) prog_21_method_16_code (7 : Nat) (Option.some Jvm.ClassFile.FieldType.boolean)) ∈ lw_all := lw_g (lw_at lw_m11 14 rfl) rfl
theorem q2495 : (Jvm.Cond.interfaceEntry "MasterTree$Master" (242 : Nat)) ∈ lw_tbl := lw_at lw_m11 15 rfl
theorem q2496 : (Jvm.Cond.methodLink "MasterTree$Master" (242 : Nat) ({ cls := "java/util/List", name := "iterator", desc := "()Ljava/util/Iterator;" } : Jvm.MethodName)) ∈ lw_all := lw_g (lw_at lw_m11 16 rfl) rfl
theorem q2497 : (Jvm.Cond.classLink "MasterTree$Master" (121 : Nat) "MasterTree$Change") ∈ lw_all := lw_g (lw_at lw_m11 17 rfl) rfl
theorem q2498 : (Jvm.Cond.fieldLink "MasterTree$Master" (243 : Nat) "MasterTree$Kind" "DELETE" "LMasterTree$Kind;") ∈ lw_all := lw_g (lw_at lw_m11 18 rfl) rfl
theorem q2499 : (Jvm.Cond.methodLink "MasterTree" (341 : Nat) ({ cls := "java/lang/Long", name := "bitCount", desc := "(J)I" } : Jvm.MethodName)) ∈ lw_all := lw_g (lw_at lw_m11 19 rfl) rfl
theorem q2500 : (Jvm.Cond.static ({ cls := "java/lang/Long", name := "bitCount", desc := "(J)I" } : Jvm.MethodName)) ∈ lw_all := lw_g (lw_at lw_m11 20 rfl) rfl
theorem q2501 : (Jvm.Cond.code ({ cls := "java/lang/Long", name := "bitCount", desc := "(J)I" } : Jvm.MethodName) prog_40_method_50_code (2 : Nat) (Option.some Jvm.ClassFile.FieldType.int)) ∈ lw_all := lw_g (lw_at lw_m11 21 rfl) rfl
theorem q2502 : (Jvm.Cond.constantLong "java/lang/Long" (314 : Nat) (6148914691236517205 : Int64)) ∈ lw_all := lw_g (lw_at lw_m11 22 rfl) rfl
theorem q2503 : (Jvm.Cond.constantLong "java/lang/Long" (316 : Nat) (3689348814741910323 : Int64)) ∈ lw_all := lw_g (lw_at lw_m11 23 rfl) rfl
theorem q2504 : (Jvm.Cond.constantLong "java/lang/Long" (318 : Nat) (1085102592571150095 : Int64)) ∈ lw_all := lw_g (lw_at lw_m11 24 rfl) rfl
theorem q2505 : (Jvm.Cond.methodLink "MasterTreeLaw" (189 : Nat) ({ cls := "MasterTreeLaw", name := "link", desc := "(LMasterTree;III[J)I" } : Jvm.MethodName)) ∈ lw_all := lw_g (lw_at lw_m11 25 rfl) rfl
theorem q2506 : (Jvm.Cond.static ({ cls := "MasterTreeLaw", name := "link", desc := "(LMasterTree;III[J)I" } : Jvm.MethodName)) ∈ lw_all := lw_g (lw_at lw_m11 26 rfl) rfl
theorem q2507 : (Jvm.Cond.codeWith ({ cls := "MasterTreeLaw", name := "link", desc := "(LMasterTree;III[J)I" } : Jvm.MethodName) method_14_code (6 : Nat) (Option.some Jvm.ClassFile.FieldType.int) [((0 : Nat), (12 : Nat), (15 : Nat), (19 : Nat)), ((0 : Nat), (12 : Nat), (19 : Nat), (13 : Nat))]) ∈ lw_all := lw_g (lw_at lw_m11 27 rfl) rfl
theorem q2508 : (Jvm.Cond.methodLink "MasterTreeLaw" (52 : Nat) ({ cls := "MasterTree", name := "link", desc := "(III)I" } : Jvm.MethodName)) ∈ lw_all := lw_g (lw_at lw_m11 28 rfl) rfl
theorem q2509 : (Jvm.Cond.instanceMethod ({ cls := "MasterTree", name := "link", desc := "(III)I" } : Jvm.MethodName)) ∈ lw_all := lw_g (lw_at lw_m11 29 rfl) rfl
theorem q2510 : (Jvm.Cond.selects "MasterTree" ({ cls := "MasterTree", name := "link", desc := "(III)I" } : Jvm.MethodName) ({ cls := "MasterTree", name := "link", desc := "(III)I" } : Jvm.MethodName)) ∈ lw_all := lw_g (lw_at lw_m11 30 rfl) rfl
theorem q2511 : (Jvm.Cond.code ({ cls := "MasterTree", name := "link", desc := "(III)I" } : Jvm.MethodName) prog_1_method_31_code (7 : Nat) (Option.some Jvm.ClassFile.FieldType.int)) ∈ lw_all := lw_g (lw_at lw_m11 31 rfl) rfl
theorem q2512 : (Jvm.Cond.stringRef "MasterTree" (347 : Nat) "an alias tells another entry") ∈ lw_tbl := lw_at lw_m11 32 rfl
theorem q2513 : (Jvm.Cond.fieldLink "MasterTree" (352 : Nat) "MasterTree$Kind" "LINK" "LMasterTree$Kind;") ∈ lw_all := lw_g (lw_at lw_m11 33 rfl) rfl
theorem q2514 : (Jvm.Cond.laysStatic "MasterTree$Kind" "LINK" "LMasterTree$Kind;") ∈ lw_tbl := lw_at lw_m11 34 rfl
theorem q2515 : (Jvm.Cond.methodLink "MasterTreeLaw" (192 : Nat) ({ cls := "MasterTreeLaw", name := "rule", desc := "(LMasterTree;IIIIII[J)I" } : Jvm.MethodName)) ∈ lw_all := lw_g (lw_at lw_m11 35 rfl) rfl
theorem q2516 : (Jvm.Cond.static ({ cls := "MasterTreeLaw", name := "rule", desc := "(LMasterTree;IIIIII[J)I" } : Jvm.MethodName)) ∈ lw_all := lw_g (lw_at lw_m11 36 rfl) rfl
theorem q2517 : (Jvm.Cond.codeWith ({ cls := "MasterTreeLaw", name := "rule", desc := "(LMasterTree;IIIIII[J)I" } : Jvm.MethodName) method_15_code (9 : Nat) (Option.some Jvm.ClassFile.FieldType.int) [((0 : Nat), (18 : Nat), (21 : Nat), (19 : Nat)), ((0 : Nat), (18 : Nat), (25 : Nat), (28 : Nat)), ((0 : Nat), (18 : Nat), (29 : Nat), (13 : Nat))]) ∈ lw_all := lw_g (lw_at lw_m11 37 rfl) rfl
theorem q2518 : (Jvm.Cond.methodLink "MasterTreeLaw" (55 : Nat) ({ cls := "MasterTree", name := "rule", desc := "(IIIIII)I" } : Jvm.MethodName)) ∈ lw_all := lw_g (lw_at lw_m11 38 rfl) rfl
theorem q2519 : (Jvm.Cond.instanceMethod ({ cls := "MasterTree", name := "rule", desc := "(IIIIII)I" } : Jvm.MethodName)) ∈ lw_all := lw_g (lw_at lw_m11 39 rfl) rfl
theorem q2520 : (Jvm.Cond.selects "MasterTree" ({ cls := "MasterTree", name := "rule", desc := "(IIIIII)I" } : Jvm.MethodName) ({ cls := "MasterTree", name := "rule", desc := "(IIIIII)I" } : Jvm.MethodName)) ∈ lw_all := lw_g (lw_at lw_m11 40 rfl) rfl
theorem q2521 : (Jvm.Cond.code ({ cls := "MasterTree", name := "rule", desc := "(IIIIII)I" } : Jvm.MethodName) prog_1_method_32_code (11 : Nat) (Option.some Jvm.ClassFile.FieldType.int)) ∈ lw_all := lw_g (lw_at lw_m11 41 rfl) rfl
theorem q2522 : (Jvm.Cond.stringRef "MasterTree" (355 : Nat) "subject") ∈ lw_tbl := lw_at lw_m11 42 rfl
theorem q2523 : (Jvm.Cond.stringRef "MasterTree" (357 : Nat) "scope") ∈ lw_tbl := lw_at lw_m11 43 rfl
theorem q2524 : (Jvm.Cond.stringRef "MasterTree" (359 : Nat) "right") ∈ lw_tbl := lw_at lw_m11 44 rfl
theorem q2525 : (Jvm.Cond.methodLink "MasterTree" (361 : Nat) ({ cls := "MasterTree", name := "ruleOf", desc := "(III)I" } : Jvm.MethodName)) ∈ lw_all := lw_g (lw_at lw_m11 45 rfl) rfl
theorem q2526 : (Jvm.Cond.static ({ cls := "MasterTree", name := "ruleOf", desc := "(III)I" } : Jvm.MethodName)) ∈ lw_all := lw_g (lw_at lw_m11 46 rfl) rfl
theorem q2527 : (Jvm.Cond.code ({ cls := "MasterTree", name := "ruleOf", desc := "(III)I" } : Jvm.MethodName) prog_1_method_1_code (3 : Nat) (Option.some Jvm.ClassFile.FieldType.int)) ∈ lw_all := lw_g (lw_at lw_m11 47 rfl) rfl
theorem q2528 : (Jvm.Cond.methodLink "MasterTree" (365 : Nat) ({ cls := "MasterTree$Entry", name := "says", desc := "(I)I" } : Jvm.MethodName)) ∈ lw_all := lw_g (lw_at lw_m11 48 rfl) rfl
theorem q2529 : (Jvm.Cond.instanceMethod ({ cls := "MasterTree$Entry", name := "says", desc := "(I)I" } : Jvm.MethodName)) ∈ lw_all := lw_g (lw_at lw_m11 49 rfl) rfl
theorem q2530 : (Jvm.Cond.selects "MasterTree$Entry" ({ cls := "MasterTree$Entry", name := "says", desc := "(I)I" } : Jvm.MethodName) ({ cls := "MasterTree$Entry", name := "says", desc := "(I)I" } : Jvm.MethodName)) ∈ lw_all := lw_g (lw_at lw_m11 50 rfl) rfl
theorem q2531 : (Jvm.Cond.code ({ cls := "MasterTree$Entry", name := "says", desc := "(I)I" } : Jvm.MethodName) prog_7_method_8_code (3 : Nat) (Option.some Jvm.ClassFile.FieldType.int)) ∈ lw_all := lw_g (lw_at lw_m11 51 rfl) rfl
theorem q2532 : (Jvm.Cond.methodLink "MasterTree$Entry" (122 : Nat) ({ cls := "java/util/TreeMap", name := "get", desc := "(Ljava/lang/Object;)Ljava/lang/Object;" } : Jvm.MethodName)) ∈ lw_all := lw_g (lw_at lw_m11 52 rfl) rfl
theorem q2533 : (Jvm.Cond.classLink "MasterTree$Entry" (59 : Nat) "java/lang/Integer") ∈ lw_all := lw_g (lw_at lw_m11 53 rfl) rfl
theorem q2534 : (Jvm.Cond.methodLink "MasterTree$Entry" (125 : Nat) ({ cls := "java/lang/Integer", name := "intValue", desc := "()I" } : Jvm.MethodName)) ∈ lw_all := lw_g (lw_at lw_m11 54 rfl) rfl
theorem q2535 : (Jvm.Cond.fieldLink "MasterTree" (368 : Nat) "MasterTree$Kind" "RULE" "LMasterTree$Kind;") ∈ lw_all := lw_g (lw_at lw_m11 55 rfl) rfl
theorem q2536 : (Jvm.Cond.laysStatic "MasterTree$Kind" "RULE" "LMasterTree$Kind;") ∈ lw_tbl := lw_at lw_m11 56 rfl
theorem q2537 : (Jvm.Cond.methodLink "MasterTreeLaw" (196 : Nat) ({ cls := "MasterTreeLaw", name := "exchange", desc := "(LMasterTree;III[J)I" } : Jvm.MethodName)) ∈ lw_all := lw_g (lw_at lw_m11 57 rfl) rfl
theorem q2538 : (Jvm.Cond.static ({ cls := "MasterTreeLaw", name := "exchange", desc := "(LMasterTree;III[J)I" } : Jvm.MethodName)) ∈ lw_all := lw_g (lw_at lw_m11 58 rfl) rfl
theorem q2539 : (Jvm.Cond.codeWith ({ cls := "MasterTreeLaw", name := "exchange", desc := "(LMasterTree;III[J)I" } : Jvm.MethodName) method_16_code (6 : Nat) (Option.some Jvm.ClassFile.FieldType.int) [((0 : Nat), (12 : Nat), (15 : Nat), (19 : Nat)), ((0 : Nat), (12 : Nat), (19 : Nat), (28 : Nat))]) ∈ lw_all := lw_g (lw_at lw_m11 59 rfl) rfl
theorem q2540 : (Jvm.Cond.methodLink "MasterTreeLaw" (59 : Nat) ({ cls := "MasterTree", name := "exchange", desc := "(III)I" } : Jvm.MethodName)) ∈ lw_all := lw_g (lw_at lw_m11 60 rfl) rfl
theorem q2541 : (Jvm.Cond.instanceMethod ({ cls := "MasterTree", name := "exchange", desc := "(III)I" } : Jvm.MethodName)) ∈ lw_all := lw_g (lw_at lw_m11 61 rfl) rfl
theorem q2542 : (Jvm.Cond.selects "MasterTree" ({ cls := "MasterTree", name := "exchange", desc := "(III)I" } : Jvm.MethodName) ({ cls := "MasterTree", name := "exchange", desc := "(III)I" } : Jvm.MethodName)) ∈ lw_all := lw_g (lw_at lw_m11 62 rfl) rfl
theorem q2543 : (Jvm.Cond.code ({ cls := "MasterTree", name := "exchange", desc := "(III)I" } : Jvm.MethodName) prog_1_method_34_code (9 : Nat) (Option.some Jvm.ClassFile.FieldType.int)) ∈ lw_all := lw_g (lw_at lw_m11 63 rfl) rfl
theorem q2544 : (Jvm.Cond.stringRef "MasterTree" (376 : Nat) "both are the master ") ∈ lw_tbl := lw_at lw_m11 64 rfl
theorem q2545 : (Jvm.Cond.methodLink "MasterTree" (384 : Nat) ({ cls := "MasterTree", name := "tells", desc := "(LMasterTree$Master;LMasterTree$Master;)V" } : Jvm.MethodName)) ∈ lw_all := lw_g (lw_at lw_m11 65 rfl) rfl
theorem q2546 : (Jvm.Cond.static ({ cls := "MasterTree", name := "tells", desc := "(LMasterTree$Master;LMasterTree$Master;)V" } : Jvm.MethodName)) ∈ lw_all := lw_g (lw_at lw_m11 66 rfl) rfl
theorem q2547 : (Jvm.Cond.code ({ cls := "MasterTree", name := "tells", desc := "(LMasterTree$Master;LMasterTree$Master;)V" } : Jvm.MethodName) prog_1_method_33_code (5 : Nat) (Option.none : Option Jvm.ClassFile.FieldType)) ∈ lw_all := lw_g (lw_at lw_m11 67 rfl) rfl
theorem q2548 : (Jvm.Cond.methodLink "MasterTree" (371 : Nat) ({ cls := "java/lang/Math", name := "max", desc := "(II)I" } : Jvm.MethodName)) ∈ lw_all := lw_g (lw_at lw_m11 68 rfl) rfl
theorem q2549 : (Jvm.Cond.methodLink "MasterTreeLaw" (199 : Nat) ({ cls := "MasterTreeLaw", name := "sweep", desc := "(LMasterTree;I[J)I" } : Jvm.MethodName)) ∈ lw_all := lw_g (lw_at lw_m11 69 rfl) rfl
theorem q2550 : (Jvm.Cond.static ({ cls := "MasterTreeLaw", name := "sweep", desc := "(LMasterTree;I[J)I" } : Jvm.MethodName)) ∈ lw_all := lw_g (lw_at lw_m11 70 rfl) rfl
theorem q2551 : (Jvm.Cond.codeWith ({ cls := "MasterTreeLaw", name := "sweep", desc := "(LMasterTree;I[J)I" } : Jvm.MethodName) method_17_code (4 : Nat) (Option.some Jvm.ClassFile.FieldType.int) [((0 : Nat), (9 : Nat), (12 : Nat), (19 : Nat))]) ∈ lw_all := lw_g (lw_at lw_m11 71 rfl) rfl
theorem q2552 : (Jvm.Cond.methodLink "MasterTreeLaw" (62 : Nat) ({ cls := "MasterTree", name := "sweep", desc := "(I)I" } : Jvm.MethodName)) ∈ lw_all := lw_g (lw_at lw_m11 72 rfl) rfl
theorem q2553 : (Jvm.Cond.instanceMethod ({ cls := "MasterTree", name := "sweep", desc := "(I)I" } : Jvm.MethodName)) ∈ lw_all := lw_g (lw_at lw_m11 73 rfl) rfl
theorem q2554 : (Jvm.Cond.selects "MasterTree" ({ cls := "MasterTree", name := "sweep", desc := "(I)I" } : Jvm.MethodName) ({ cls := "MasterTree", name := "sweep", desc := "(I)I" } : Jvm.MethodName)) ∈ lw_all := lw_g (lw_at lw_m11 74 rfl) rfl
theorem q2555 : (Jvm.Cond.code ({ cls := "MasterTree", name := "sweep", desc := "(I)I" } : Jvm.MethodName) prog_1_method_35_code (5 : Nat) (Option.some Jvm.ClassFile.FieldType.int)) ∈ lw_all := lw_g (lw_at lw_m11 75 rfl) rfl
theorem q2556 : (Jvm.Cond.methodLink "MasterTreeLaw" (203 : Nat) ({ cls := "MasterTreeLaw", name := "equal", desc := "(LMasterTree;II[J)I" } : Jvm.MethodName)) ∈ lw_all := lw_g (lw_at lw_m11 76 rfl) rfl
theorem q2557 : (Jvm.Cond.static ({ cls := "MasterTreeLaw", name := "equal", desc := "(LMasterTree;II[J)I" } : Jvm.MethodName)) ∈ lw_all := lw_g (lw_at lw_m11 77 rfl) rfl
theorem q2558 : (Jvm.Cond.codeWith ({ cls := "MasterTreeLaw", name := "equal", desc := "(LMasterTree;II[J)I" } : Jvm.MethodName) method_18_code (5 : Nat) (Option.some Jvm.ClassFile.FieldType.int) [((0 : Nat), (10 : Nat), (13 : Nat), (19 : Nat)), ((0 : Nat), (10 : Nat), (17 : Nat), (28 : Nat)), ((0 : Nat), (10 : Nat), (21 : Nat), (13 : Nat))]) ∈ lw_all := lw_g (lw_at lw_m11 78 rfl) rfl
theorem q2559 : (Jvm.Cond.methodLink "MasterTreeLaw" (66 : Nat) ({ cls := "MasterTree", name := "equal", desc := "(II)I" } : Jvm.MethodName)) ∈ lw_all := lw_g (lw_at lw_m11 79 rfl) rfl
theorem q2560 : (Jvm.Cond.instanceMethod ({ cls := "MasterTree", name := "equal", desc := "(II)I" } : Jvm.MethodName)) ∈ lw_all := lw_g (lw_at lw_m11 80 rfl) rfl
theorem q2561 : (Jvm.Cond.selects "MasterTree" ({ cls := "MasterTree", name := "equal", desc := "(II)I" } : Jvm.MethodName) ({ cls := "MasterTree", name := "equal", desc := "(II)I" } : Jvm.MethodName)) ∈ lw_all := lw_g (lw_at lw_m11 81 rfl) rfl
theorem q2562 : (Jvm.Cond.code ({ cls := "MasterTree", name := "equal", desc := "(II)I" } : Jvm.MethodName) prog_1_method_37_code (4 : Nat) (Option.some Jvm.ClassFile.FieldType.int)) ∈ lw_all := lw_g (lw_at lw_m11 82 rfl) rfl
theorem q2563 : (Jvm.Cond.classLink "MasterTree" (397 : Nat) "MasterTree$ByValue") ∈ lw_all := lw_g (lw_at lw_m11 83 rfl) rfl
theorem q2564 : (Jvm.Cond.instantiable "MasterTree$ByValue" (3 : Nat)) ∈ lw_all := lw_g (lw_at lw_m11 84 rfl) rfl
theorem q2565 : (Jvm.Cond.methodLink "MasterTree" (399 : Nat) ({ cls := "MasterTree$ByValue", name := "<init>", desc := "(IIZ)V" } : Jvm.MethodName)) ∈ lw_all := lw_g (lw_at lw_m11 85 rfl) rfl
theorem q2566 : (Jvm.Cond.instanceMethod ({ cls := "MasterTree$ByValue", name := "<init>", desc := "(IIZ)V" } : Jvm.MethodName)) ∈ lw_all := lw_g (lw_at lw_m11 86 rfl) rfl
theorem q2567 : (Jvm.Cond.code ({ cls := "MasterTree$ByValue", name := "<init>", desc := "(IIZ)V" } : Jvm.MethodName) prog_4_method_1_code (4 : Nat) (Option.none : Option Jvm.ClassFile.FieldType)) ∈ lw_all := lw_g (lw_at lw_m11 87 rfl) rfl
theorem q2568 : (Jvm.Cond.methodLinkNest "MasterTree$ByValue" (3 : Nat) ({ cls := "MasterTree$Filter", name := "<init>", desc := "()V" } : Jvm.MethodName) "MasterTree") ∈ lw_tbl := lw_at lw_m11 88 rfl
theorem q2569 : (Jvm.Cond.instanceMethod ({ cls := "MasterTree$Filter", name := "<init>", desc := "()V" } : Jvm.MethodName)) ∈ lw_all := lw_g (lw_at lw_m11 89 rfl) rfl
theorem q2570 : (Jvm.Cond.code ({ cls := "MasterTree$Filter", name := "<init>", desc := "()V" } : Jvm.MethodName) prog_8_method_1_code (1 : Nat) (Option.none : Option Jvm.ClassFile.FieldType)) ∈ lw_all := lw_g (lw_at lw_m11 90 rfl) rfl
theorem q2571 : (Jvm.Cond.methodLink "MasterTree$Filter" (1 : Nat) ({ cls := "java/lang/Object", name := "<init>", desc := "()V" } : Jvm.MethodName)) ∈ lw_all := lw_g (lw_at lw_m11 91 rfl) rfl
theorem q2572 : (Jvm.Cond.fieldLink "MasterTree$ByValue" (9 : Nat) "MasterTree$ByValue" "attribute" "I") ∈ lw_all := lw_g (lw_at lw_m11 92 rfl) rfl
theorem q2573 : (Jvm.Cond.fieldLink "MasterTree$ByValue" (15 : Nat) "MasterTree$ByValue" "key" "I") ∈ lw_all := lw_g (lw_at lw_m11 93 rfl) rfl
theorem q2574 : (Jvm.Cond.fieldLink "MasterTree$ByValue" (18 : Nat) "MasterTree$ByValue" "isLeast" "Z") ∈ lw_all := lw_g (lw_at lw_m11 94 rfl) rfl
theorem q2575 : (Jvm.Cond.laysFinal "MasterTree$ByValue" "MasterTree$ByValue" "attribute" "I") ∈ lw_all := lw_g (lw_at lw_m11 95 rfl) rfl
theorem q2576 : (Jvm.Cond.soleField "MasterTree$ByValue" "attribute") ∈ lw_all := lw_g (lw_at lw_m11 96 rfl) rfl
theorem q2577 : (Jvm.Cond.laysFinal "MasterTree$ByValue" "MasterTree$ByValue" "key" "I") ∈ lw_all := lw_g (lw_at lw_m11 97 rfl) rfl
theorem q2578 : (Jvm.Cond.soleField "MasterTree$ByValue" "key") ∈ lw_all := lw_g (lw_at lw_m11 98 rfl) rfl
theorem q2579 : (Jvm.Cond.laysFinal "MasterTree$ByValue" "MasterTree$ByValue" "isLeast" "Z") ∈ lw_all := lw_g (lw_at lw_m11 99 rfl) rfl
theorem q2580 : (Jvm.Cond.soleField "MasterTree$ByValue" "isLeast") ∈ lw_all := lw_g (lw_at lw_m11 100 rfl) rfl
theorem q2581 : (Jvm.Cond.superclass "MasterTree$ByValue" "MasterTree$Filter") ∈ lw_all := lw_g (lw_at lw_m11 101 rfl) rfl
theorem q2582 : (Jvm.Cond.methodLink "MasterTree" (402 : Nat) ({ cls := "MasterTree", name := "puts", desc := "(LMasterTree$Filter;)I" } : Jvm.MethodName)) ∈ lw_all := lw_g (lw_at lw_m11 102 rfl) rfl
theorem q2583 : (Jvm.Cond.privateMethod ({ cls := "MasterTree", name := "puts", desc := "(LMasterTree$Filter;)I" } : Jvm.MethodName)) ∈ lw_tbl := lw_at lw_m11 103 rfl
theorem q2584 : (Jvm.Cond.instanceMethod ({ cls := "MasterTree", name := "puts", desc := "(LMasterTree$Filter;)I" } : Jvm.MethodName)) ∈ lw_all := lw_g (lw_at lw_m11 104 rfl) rfl
theorem q2585 : (Jvm.Cond.code ({ cls := "MasterTree", name := "puts", desc := "(LMasterTree$Filter;)I" } : Jvm.MethodName) prog_1_method_36_code (2 : Nat) (Option.some Jvm.ClassFile.FieldType.int)) ∈ lw_all := lw_g (lw_at lw_m11 105 rfl) rfl
theorem q2586 : (Jvm.Cond.stringRef "MasterTree" (395 : Nat) "the draft has too many filters") ∈ lw_tbl := lw_at lw_m11 106 rfl
theorem q2587 : (Jvm.Cond.methodLink "MasterTreeLaw" (206 : Nat) ({ cls := "MasterTreeLaw", name := "atLeast", desc := "(LMasterTree;II[J)I" } : Jvm.MethodName)) ∈ lw_all := lw_g (lw_at lw_m11 107 rfl) rfl
theorem q2588 : (Jvm.Cond.static ({ cls := "MasterTreeLaw", name := "atLeast", desc := "(LMasterTree;II[J)I" } : Jvm.MethodName)) ∈ lw_all := lw_g (lw_at lw_m11 108 rfl) rfl
theorem q2589 : (Jvm.Cond.codeWith ({ cls := "MasterTreeLaw", name := "atLeast", desc := "(LMasterTree;II[J)I" } : Jvm.MethodName) method_19_code (5 : Nat) (Option.some Jvm.ClassFile.FieldType.int) [((0 : Nat), (10 : Nat), (13 : Nat), (19 : Nat)), ((0 : Nat), (10 : Nat), (17 : Nat), (28 : Nat)), ((0 : Nat), (10 : Nat), (21 : Nat), (13 : Nat))]) ∈ lw_all := lw_g (lw_at lw_m11 109 rfl) rfl
theorem q2590 : (Jvm.Cond.methodLink "MasterTreeLaw" (69 : Nat) ({ cls := "MasterTree", name := "atLeast", desc := "(II)I" } : Jvm.MethodName)) ∈ lw_all := lw_g (lw_at lw_m11 110 rfl) rfl
theorem q2591 : (Jvm.Cond.instanceMethod ({ cls := "MasterTree", name := "atLeast", desc := "(II)I" } : Jvm.MethodName)) ∈ lw_all := lw_g (lw_at lw_m11 111 rfl) rfl
theorem q2592 : (Jvm.Cond.selects "MasterTree" ({ cls := "MasterTree", name := "atLeast", desc := "(II)I" } : Jvm.MethodName) ({ cls := "MasterTree", name := "atLeast", desc := "(II)I" } : Jvm.MethodName)) ∈ lw_all := lw_g (lw_at lw_m11 112 rfl) rfl
theorem q2593 : (Jvm.Cond.code ({ cls := "MasterTree", name := "atLeast", desc := "(II)I" } : Jvm.MethodName) prog_1_method_38_code (4 : Nat) (Option.some Jvm.ClassFile.FieldType.int)) ∈ lw_all := lw_g (lw_at lw_m11 113 rfl) rfl
theorem q2594 : (Jvm.Cond.methodLink "MasterTreeLaw" (209 : Nat) ({ cls := "MasterTreeLaw", name := "has", desc := "(LMasterTree;I[J)I" } : Jvm.MethodName)) ∈ lw_all := lw_g (lw_at lw_m11 114 rfl) rfl
theorem q2595 : (Jvm.Cond.static ({ cls := "MasterTreeLaw", name := "has", desc := "(LMasterTree;I[J)I" } : Jvm.MethodName)) ∈ lw_all := lw_g (lw_at lw_m11 115 rfl) rfl
theorem q2596 : (Jvm.Cond.codeWith ({ cls := "MasterTreeLaw", name := "has", desc := "(LMasterTree;I[J)I" } : Jvm.MethodName) method_20_code (4 : Nat) (Option.some Jvm.ClassFile.FieldType.int) [((0 : Nat), (9 : Nat), (12 : Nat), (19 : Nat)), ((0 : Nat), (9 : Nat), (15 : Nat), (13 : Nat))]) ∈ lw_all := lw_g (lw_at lw_m11 116 rfl) rfl
theorem q2597 : (Jvm.Cond.methodLink "MasterTreeLaw" (72 : Nat) ({ cls := "MasterTree", name := "has", desc := "(I)I" } : Jvm.MethodName)) ∈ lw_all := lw_g (lw_at lw_m11 117 rfl) rfl
theorem q2598 : (Jvm.Cond.instanceMethod ({ cls := "MasterTree", name := "has", desc := "(I)I" } : Jvm.MethodName)) ∈ lw_all := lw_g (lw_at lw_m11 118 rfl) rfl
theorem q2599 : (Jvm.Cond.selects "MasterTree" ({ cls := "MasterTree", name := "has", desc := "(I)I" } : Jvm.MethodName) ({ cls := "MasterTree", name := "has", desc := "(I)I" } : Jvm.MethodName)) ∈ lw_all := lw_g (lw_at lw_m11 119 rfl) rfl
theorem q2600 : (Jvm.Cond.code ({ cls := "MasterTree", name := "has", desc := "(I)I" } : Jvm.MethodName) prog_1_method_39_code (2 : Nat) (Option.some Jvm.ClassFile.FieldType.int)) ∈ lw_all := lw_g (lw_at lw_m11 120 rfl) rfl
theorem q2601 : (Jvm.Cond.methodLink "MasterTreeLaw" (212 : Nat) ({ cls := "MasterTreeLaw", name := "ofClass", desc := "(LMasterTree;I[J)I" } : Jvm.MethodName)) ∈ lw_all := lw_g (lw_at lw_m11 121 rfl) rfl
theorem q2602 : (Jvm.Cond.static ({ cls := "MasterTreeLaw", name := "ofClass", desc := "(LMasterTree;I[J)I" } : Jvm.MethodName)) ∈ lw_all := lw_g (lw_at lw_m11 122 rfl) rfl
theorem q2603 : (Jvm.Cond.codeWith ({ cls := "MasterTreeLaw", name := "ofClass", desc := "(LMasterTree;I[J)I" } : Jvm.MethodName) method_21_code (4 : Nat) (Option.some Jvm.ClassFile.FieldType.int) [((0 : Nat), (9 : Nat), (12 : Nat), (19 : Nat)), ((0 : Nat), (9 : Nat), (15 : Nat), (13 : Nat))]) ∈ lw_all := lw_g (lw_at lw_m11 123 rfl) rfl
theorem q2604 : (Jvm.Cond.methodLink "MasterTreeLaw" (75 : Nat) ({ cls := "MasterTree", name := "ofClass", desc := "(I)I" } : Jvm.MethodName)) ∈ lw_all := lw_g (lw_at lw_m11 124 rfl) rfl
theorem q2605 : (Jvm.Cond.instanceMethod ({ cls := "MasterTree", name := "ofClass", desc := "(I)I" } : Jvm.MethodName)) ∈ lw_all := lw_g (lw_at lw_m11 125 rfl) rfl
theorem q2606 : (Jvm.Cond.selects "MasterTree" ({ cls := "MasterTree", name := "ofClass", desc := "(I)I" } : Jvm.MethodName) ({ cls := "MasterTree", name := "ofClass", desc := "(I)I" } : Jvm.MethodName)) ∈ lw_all := lw_g (lw_at lw_m11 126 rfl) rfl
theorem q2607 : (Jvm.Cond.code ({ cls := "MasterTree", name := "ofClass", desc := "(I)I" } : Jvm.MethodName) prog_1_method_40_code (2 : Nat) (Option.some Jvm.ClassFile.FieldType.int)) ∈ lw_all := lw_g (lw_at lw_m11 127 rfl) rfl
theorem q2608 : (Jvm.Cond.classLink "MasterTree" (406 : Nat) "MasterTree$ByClass") ∈ lw_all := lw_g (lw_at lw_m11 128 rfl) rfl
theorem q2609 : (Jvm.Cond.instantiable "MasterTree$ByClass" (1 : Nat)) ∈ lw_all := lw_g (lw_at lw_m11 129 rfl) rfl
theorem q2610 : (Jvm.Cond.methodLink "MasterTree" (408 : Nat) ({ cls := "MasterTree$ByClass", name := "<init>", desc := "(LMasterTree$Klass;)V" } : Jvm.MethodName)) ∈ lw_all := lw_g (lw_at lw_m11 130 rfl) rfl
theorem q2611 : (Jvm.Cond.instanceMethod ({ cls := "MasterTree$ByClass", name := "<init>", desc := "(LMasterTree$Klass;)V" } : Jvm.MethodName)) ∈ lw_all := lw_g (lw_at lw_m11 131 rfl) rfl
theorem q2612 : (Jvm.Cond.code ({ cls := "MasterTree$ByClass", name := "<init>", desc := "(LMasterTree$Klass;)V" } : Jvm.MethodName) prog_3_method_1_code (2 : Nat) (Option.none : Option Jvm.ClassFile.FieldType)) ∈ lw_all := lw_g (lw_at lw_m11 132 rfl) rfl
theorem q2613 : (Jvm.Cond.methodLinkNest "MasterTree$ByClass" (1 : Nat) ({ cls := "MasterTree$Filter", name := "<init>", desc := "()V" } : Jvm.MethodName) "MasterTree") ∈ lw_tbl := lw_at lw_m11 133 rfl
theorem q2614 : (Jvm.Cond.fieldLink "MasterTree$ByClass" (7 : Nat) "MasterTree$ByClass" "klass" "LMasterTree$Klass;") ∈ lw_all := lw_g (lw_at lw_m11 134 rfl) rfl
theorem q2615 : (Jvm.Cond.laysFinal "MasterTree$ByClass" "MasterTree$ByClass" "klass" "LMasterTree$Klass;") ∈ lw_all := lw_g (lw_at lw_m11 135 rfl) rfl
theorem q2616 : (Jvm.Cond.soleField "MasterTree$ByClass" "klass") ∈ lw_all := lw_g (lw_at lw_m11 136 rfl) rfl
theorem q2617 : (Jvm.Cond.superclass "MasterTree$ByClass" "MasterTree$Filter") ∈ lw_all := lw_g (lw_at lw_m11 137 rfl) rfl
theorem q2618 : (Jvm.Cond.methodLink "MasterTreeLaw" (215 : Nat) ({ cls := "MasterTreeLaw", name := "combine", desc := "(LMasterTree;Z[J)I" } : Jvm.MethodName)) ∈ lw_all := lw_g (lw_at lw_m11 138 rfl) rfl
theorem q2619 : (Jvm.Cond.static ({ cls := "MasterTreeLaw", name := "combine", desc := "(LMasterTree;Z[J)I" } : Jvm.MethodName)) ∈ lw_all := lw_g (lw_at lw_m11 139 rfl) rfl
theorem q2620 : (Jvm.Cond.codeWith ({ cls := "MasterTreeLaw", name := "combine", desc := "(LMasterTree;Z[J)I" } : Jvm.MethodName) method_22_code (4 : Nat) (Option.some Jvm.ClassFile.FieldType.int) [((0 : Nat), (9 : Nat), (12 : Nat), (13 : Nat))]) ∈ lw_all := lw_g (lw_at lw_m11 140 rfl) rfl
theorem q2621 : (Jvm.Cond.methodLink "MasterTreeLaw" (78 : Nat) ({ cls := "MasterTree", name := "combine", desc := "(Z)I" } : Jvm.MethodName)) ∈ lw_all := lw_g (lw_at lw_m11 141 rfl) rfl
theorem q2622 : (Jvm.Cond.instanceMethod ({ cls := "MasterTree", name := "combine", desc := "(Z)I" } : Jvm.MethodName)) ∈ lw_all := lw_g (lw_at lw_m11 142 rfl) rfl
theorem q2623 : (Jvm.Cond.selects "MasterTree" ({ cls := "MasterTree", name := "combine", desc := "(Z)I" } : Jvm.MethodName) ({ cls := "MasterTree", name := "combine", desc := "(Z)I" } : Jvm.MethodName)) ∈ lw_all := lw_g (lw_at lw_m11 143 rfl) rfl
theorem q2624 : (Jvm.Cond.code ({ cls := "MasterTree", name := "combine", desc := "(Z)I" } : Jvm.MethodName) prog_1_method_41_code (4 : Nat) (Option.some Jvm.ClassFile.FieldType.int)) ∈ lw_all := lw_g (lw_at lw_m11 144 rfl) rfl
theorem q2625 : (Jvm.Cond.stringRef "MasterTree" (411 : Nat) "the draft has too few filters, or too many parts") ∈ lw_tbl := lw_at lw_m11 145 rfl
theorem q2626 : (Jvm.Cond.interfaceEntry "MasterTree" (413 : Nat)) ∈ lw_tbl := lw_at lw_m11 146 rfl
theorem q2627 : (Jvm.Cond.methodLink "MasterTree" (413 : Nat) ({ cls := "java/util/List", name := "remove", desc := "(I)Ljava/lang/Object;" } : Jvm.MethodName)) ∈ lw_all := lw_g (lw_at lw_m11 147 rfl) rfl
theorem q2628 : (Jvm.Cond.interfaceMethod "java/util/List" "java/util/List" "remove" "(I)Ljava/lang/Object;") ∈ lw_tbl := lw_at lw_m11 148 rfl
theorem q2629 : (Jvm.Cond.declares ({ cls := "java/util/List", name := "remove", desc := "(I)Ljava/lang/Object;" } : Jvm.MethodName)) ∈ lw_tbl := lw_at lw_m11 149 rfl
theorem q2630 : (Jvm.Cond.selects "java/util/ArrayList" ({ cls := "java/util/List", name := "remove", desc := "(I)Ljava/lang/Object;" } : Jvm.MethodName) ({ cls := "java/util/ArrayList", name := "remove", desc := "(I)Ljava/lang/Object;" } : Jvm.MethodName)) ∈ lw_all := lw_g (lw_at lw_m11 150 rfl) rfl
theorem q2631 : (Jvm.Cond.unhidden "java/util/ArrayList" "remove" "(I)Ljava/lang/Object;") ∈ lw_tbl := lw_at lw_m11 151 rfl
theorem q2632 : (Jvm.Cond.publicMethod ({ cls := "java/util/ArrayList", name := "remove", desc := "(I)Ljava/lang/Object;" } : Jvm.MethodName)) ∈ lw_tbl := lw_at lw_m11 152 rfl
theorem q2633 : (Jvm.Cond.classLink "MasterTree" (416 : Nat) "MasterTree$Filter") ∈ lw_all := lw_g (lw_at lw_m11 153 rfl) rfl
theorem q2634 : (Jvm.Cond.classLink "MasterTree" (418 : Nat) "MasterTree$Combined") ∈ lw_all := lw_g (lw_at lw_m11 154 rfl) rfl
theorem q2635 : (Jvm.Cond.instantiable "MasterTree$Combined" (3 : Nat)) ∈ lw_all := lw_g (lw_at lw_m11 155 rfl) rfl
theorem q2636 : (Jvm.Cond.methodLink "MasterTree" (420 : Nat) ({ cls := "MasterTree$Combined", name := "<init>", desc := "(LMasterTree$Filter;LMasterTree$Filter;Z)V" } : Jvm.MethodName)) ∈ lw_all := lw_g (lw_at lw_m11 156 rfl) rfl
theorem q2637 : (Jvm.Cond.instanceMethod ({ cls := "MasterTree$Combined", name := "<init>", desc := "(LMasterTree$Filter;LMasterTree$Filter;Z)V" } : Jvm.MethodName)) ∈ lw_all := lw_g (lw_at lw_m11 157 rfl) rfl
theorem q2638 : (Jvm.Cond.code ({ cls := "MasterTree$Combined", name := "<init>", desc := "(LMasterTree$Filter;LMasterTree$Filter;Z)V" } : Jvm.MethodName) prog_6_method_1_code (4 : Nat) (Option.none : Option Jvm.ClassFile.FieldType)) ∈ lw_all := lw_g (lw_at lw_m11 158 rfl) rfl
theorem q2639 : (Jvm.Cond.methodLinkNest "MasterTree$Combined" (1 : Nat) ({ cls := "MasterTree$Filter", name := "<init>", desc := "()V" } : Jvm.MethodName) "MasterTree") ∈ lw_tbl := lw_at lw_m11 159 rfl
theorem q2640 : (Jvm.Cond.fieldLink "MasterTree$Combined" (7 : Nat) "MasterTree$Combined" "one" "LMasterTree$Filter;") ∈ lw_all := lw_g (lw_at lw_m11 160 rfl) rfl
theorem q2641 : (Jvm.Cond.fieldLink "MasterTree$Combined" (13 : Nat) "MasterTree$Combined" "other" "LMasterTree$Filter;") ∈ lw_all := lw_g (lw_at lw_m11 161 rfl) rfl
theorem q2642 : (Jvm.Cond.fieldLink "MasterTree$Combined" (16 : Nat) "MasterTree$Combined" "both" "Z") ∈ lw_all := lw_g (lw_at lw_m11 162 rfl) rfl
theorem q2643 : (Jvm.Cond.laysFinal "MasterTree$Combined" "MasterTree$Combined" "one" "LMasterTree$Filter;") ∈ lw_all := lw_g (lw_at lw_m11 163 rfl) rfl
theorem q2644 : (Jvm.Cond.soleField "MasterTree$Combined" "one") ∈ lw_all := lw_g (lw_at lw_m11 164 rfl) rfl
theorem q2645 : (Jvm.Cond.laysFinal "MasterTree$Combined" "MasterTree$Combined" "other" "LMasterTree$Filter;") ∈ lw_all := lw_g (lw_at lw_m11 165 rfl) rfl
theorem q2646 : (Jvm.Cond.soleField "MasterTree$Combined" "other") ∈ lw_all := lw_g (lw_at lw_m11 166 rfl) rfl
theorem q2647 : (Jvm.Cond.laysFinal "MasterTree$Combined" "MasterTree$Combined" "both" "Z") ∈ lw_all := lw_g (lw_at lw_m11 167 rfl) rfl
theorem q2648 : (Jvm.Cond.soleField "MasterTree$Combined" "both") ∈ lw_all := lw_g (lw_at lw_m11 168 rfl) rfl
theorem q2649 : (Jvm.Cond.superclass "MasterTree$Combined" "MasterTree$Filter") ∈ lw_all := lw_g (lw_at lw_m11 169 rfl) rfl
theorem q2650 : (Jvm.Cond.methodLink "MasterTreeLaw" (219 : Nat) ({ cls := "MasterTreeLaw", name := "not", desc := "(LMasterTree;[J)I" } : Jvm.MethodName)) ∈ lw_all := lw_g (lw_at lw_m11 170 rfl) rfl
theorem q2651 : (Jvm.Cond.static ({ cls := "MasterTreeLaw", name := "not", desc := "(LMasterTree;[J)I" } : Jvm.MethodName)) ∈ lw_all := lw_g (lw_at lw_m11 171 rfl) rfl
theorem q2652 : (Jvm.Cond.codeWith ({ cls := "MasterTreeLaw", name := "not", desc := "(LMasterTree;[J)I" } : Jvm.MethodName) method_23_code (3 : Nat) (Option.some Jvm.ClassFile.FieldType.int) [((0 : Nat), (8 : Nat), (11 : Nat), (13 : Nat))]) ∈ lw_all := lw_g (lw_at lw_m11 172 rfl) rfl
theorem q2653 : (Jvm.Cond.methodLink "MasterTreeLaw" (82 : Nat) ({ cls := "MasterTree", name := "not", desc := "()I" } : Jvm.MethodName)) ∈ lw_all := lw_g (lw_at lw_m11 173 rfl) rfl
theorem q2654 : (Jvm.Cond.instanceMethod ({ cls := "MasterTree", name := "not", desc := "()I" } : Jvm.MethodName)) ∈ lw_all := lw_g (lw_at lw_m11 174 rfl) rfl
theorem q2655 : (Jvm.Cond.selects "MasterTree" ({ cls := "MasterTree", name := "not", desc := "()I" } : Jvm.MethodName) ({ cls := "MasterTree", name := "not", desc := "()I" } : Jvm.MethodName)) ∈ lw_all := lw_g (lw_at lw_m11 175 rfl) rfl
theorem q2656 : (Jvm.Cond.code ({ cls := "MasterTree", name := "not", desc := "()I" } : Jvm.MethodName) prog_1_method_42_code (2 : Nat) (Option.some Jvm.ClassFile.FieldType.int)) ∈ lw_all := lw_g (lw_at lw_m11 176 rfl) rfl
theorem q2657 : (Jvm.Cond.interfaceEntry "MasterTree" (423 : Nat)) ∈ lw_tbl := lw_at lw_m11 177 rfl
theorem q2658 : (Jvm.Cond.methodLink "MasterTree" (423 : Nat) ({ cls := "java/util/List", name := "isEmpty", desc := "()Z" } : Jvm.MethodName)) ∈ lw_all := lw_g (lw_at lw_m11 178 rfl) rfl
theorem q2659 : (Jvm.Cond.stringRef "MasterTree" (424 : Nat) "the draft has no filter, or too many parts") ∈ lw_tbl := lw_at lw_m11 179 rfl
theorem q2660 : (Jvm.Cond.classLink "MasterTree" (426 : Nat) "MasterTree$Not") ∈ lw_all := lw_g (lw_at lw_m11 180 rfl) rfl
theorem q2661 : (Jvm.Cond.instantiable "MasterTree$Not" (1 : Nat)) ∈ lw_all := lw_g (lw_at lw_m11 181 rfl) rfl
theorem q2662 : (Jvm.Cond.methodLink "MasterTree" (428 : Nat) ({ cls := "MasterTree$Not", name := "<init>", desc := "(LMasterTree$Filter;)V" } : Jvm.MethodName)) ∈ lw_all := lw_g (lw_at lw_m11 182 rfl) rfl
theorem q2663 : (Jvm.Cond.instanceMethod ({ cls := "MasterTree$Not", name := "<init>", desc := "(LMasterTree$Filter;)V" } : Jvm.MethodName)) ∈ lw_all := lw_g (lw_at lw_m11 183 rfl) rfl
theorem q2664 : (Jvm.Cond.code ({ cls := "MasterTree$Not", name := "<init>", desc := "(LMasterTree$Filter;)V" } : Jvm.MethodName) prog_22_method_1_code (2 : Nat) (Option.none : Option Jvm.ClassFile.FieldType)) ∈ lw_all := lw_g (lw_at lw_m11 184 rfl) rfl
theorem q2665 : (Jvm.Cond.methodLinkNest "MasterTree$Not" (1 : Nat) ({ cls := "MasterTree$Filter", name := "<init>", desc := "()V" } : Jvm.MethodName) "MasterTree") ∈ lw_tbl := lw_at lw_m11 185 rfl
theorem q2666 : (Jvm.Cond.fieldLink "MasterTree$Not" (7 : Nat) "MasterTree$Not" "its" "LMasterTree$Filter;") ∈ lw_all := lw_g (lw_at lw_m11 186 rfl) rfl
theorem q2667 : (Jvm.Cond.laysFinal "MasterTree$Not" "MasterTree$Not" "its" "LMasterTree$Filter;") ∈ lw_all := lw_g (lw_at lw_m11 187 rfl) rfl
theorem q2668 : (Jvm.Cond.soleField "MasterTree$Not" "its") ∈ lw_all := lw_g (lw_at lw_m11 188 rfl) rfl
theorem q2669 : (Jvm.Cond.superclass "MasterTree$Not" "MasterTree$Filter") ∈ lw_all := lw_g (lw_at lw_m11 189 rfl) rfl
theorem q2670 : (Jvm.Cond.methodLink "MasterTreeLaw" (227 : Nat) ({ cls := "MasterTreeLaw", name := "search", desc := "(LMasterTree;III[J)I" } : Jvm.MethodName)) ∈ lw_all := lw_g (lw_at lw_m11 190 rfl) rfl
theorem q2671 : (Jvm.Cond.static ({ cls := "MasterTreeLaw", name := "search", desc := "(LMasterTree;III[J)I" } : Jvm.MethodName)) ∈ lw_all := lw_g (lw_at lw_m11 191 rfl) rfl
theorem q2672 : (Jvm.Cond.codeWith ({ cls := "MasterTreeLaw", name := "search", desc := "(LMasterTree;III[J)I" } : Jvm.MethodName) method_24_code (6 : Nat) (Option.some Jvm.ClassFile.FieldType.int) [((0 : Nat), (12 : Nat), (15 : Nat), (19 : Nat)), ((0 : Nat), (12 : Nat), (19 : Nat), (13 : Nat))]) ∈ lw_all := lw_g (lw_at lw_m11 192 rfl) rfl
theorem q2673 : (Jvm.Cond.methodLink "MasterTreeLaw" (86 : Nat) ({ cls := "MasterTree", name := "search", desc := "(III)I" } : Jvm.MethodName)) ∈ lw_all := lw_g (lw_at lw_m11 193 rfl) rfl
theorem q2674 : (Jvm.Cond.instanceMethod ({ cls := "MasterTree", name := "search", desc := "(III)I" } : Jvm.MethodName)) ∈ lw_all := lw_g (lw_at lw_m11 194 rfl) rfl
theorem q2675 : (Jvm.Cond.selects "MasterTree" ({ cls := "MasterTree", name := "search", desc := "(III)I" } : Jvm.MethodName) ({ cls := "MasterTree", name := "search", desc := "(III)I" } : Jvm.MethodName)) ∈ lw_all := lw_g (lw_at lw_m11 195 rfl) rfl
theorem q2676 : (Jvm.Cond.code ({ cls := "MasterTree", name := "search", desc := "(III)I" } : Jvm.MethodName) prog_1_method_47_code (8 : Nat) (Option.some Jvm.ClassFile.FieldType.int)) ∈ lw_all := lw_g (lw_at lw_m11 196 rfl) rfl
theorem q2677 : (Jvm.Cond.methodLink "MasterTree" (433 : Nat) ({ cls := "MasterTree", name := "searched", desc := "(III)LMasterTree$Master;" } : Jvm.MethodName)) ∈ lw_all := lw_g (lw_at lw_m11 197 rfl) rfl
theorem q2678 : (Jvm.Cond.privateMethod ({ cls := "MasterTree", name := "searched", desc := "(III)LMasterTree$Master;" } : Jvm.MethodName)) ∈ lw_tbl := lw_at lw_m11 198 rfl
theorem q2679 : (Jvm.Cond.instanceMethod ({ cls := "MasterTree", name := "searched", desc := "(III)LMasterTree$Master;" } : Jvm.MethodName)) ∈ lw_all := lw_g (lw_at lw_m11 199 rfl) rfl
theorem q2680 : (Jvm.Cond.code ({ cls := "MasterTree", name := "searched", desc := "(III)LMasterTree$Master;" } : Jvm.MethodName) prog_1_method_46_code (5 : Nat) (Option.some (Jvm.ClassFile.FieldType.object "MasterTree$Master"))) ∈ lw_all := lw_g (lw_at lw_m11 200 rfl) rfl
theorem q2681 : (Jvm.Cond.methodLink "MasterTree" (437 : Nat) ({ cls := "MasterTree", name := "filter", desc := "()LMasterTree$Filter;" } : Jvm.MethodName)) ∈ lw_all := lw_g (lw_at lw_m11 201 rfl) rfl
theorem q2682 : (Jvm.Cond.privateMethod ({ cls := "MasterTree", name := "filter", desc := "()LMasterTree$Filter;" } : Jvm.MethodName)) ∈ lw_tbl := lw_at lw_m11 202 rfl
theorem q2683 : (Jvm.Cond.instanceMethod ({ cls := "MasterTree", name := "filter", desc := "()LMasterTree$Filter;" } : Jvm.MethodName)) ∈ lw_all := lw_g (lw_at lw_m11 203 rfl) rfl
theorem q2684 : (Jvm.Cond.code ({ cls := "MasterTree", name := "filter", desc := "()LMasterTree$Filter;" } : Jvm.MethodName) prog_1_method_44_code (1 : Nat) (Option.some (Jvm.ClassFile.FieldType.object "MasterTree$Filter"))) ∈ lw_all := lw_g (lw_at lw_m11 204 rfl) rfl
theorem q2685 : (Jvm.Cond.stringRef "MasterTree" (431 : Nat) "the draft has not just one filter") ∈ lw_tbl := lw_at lw_m11 205 rfl
theorem q2686 : (Jvm.Cond.methodLink "MasterTree" (441 : Nat) ({ cls := "MasterTree$Filter", name := "among", desc := "(LMasterTree$Master;)J" } : Jvm.MethodName)) ∈ lw_all := lw_g (lw_at lw_m11 206 rfl) rfl
theorem q2687 : (Jvm.Cond.declares ({ cls := "MasterTree$Filter", name := "among", desc := "(LMasterTree$Master;)J" } : Jvm.MethodName)) ∈ lw_tbl := lw_at lw_m11 207 rfl
theorem q2688 : (Jvm.Cond.sameMethod "MasterTree$Filter" "MasterTree$Filter" "among" "(LMasterTree$Master;)J") ∈ lw_all := lw_g (lw_at lw_m11 208 rfl) rfl
theorem q2689 : (Jvm.Cond.selects "MasterTree$ByClass" ({ cls := "MasterTree$Filter", name := "among", desc := "(LMasterTree$Master;)J" } : Jvm.MethodName) ({ cls := "MasterTree$ByClass", name := "among", desc := "(LMasterTree$Master;)J" } : Jvm.MethodName)) ∈ lw_all := lw_g (lw_at lw_m11 209 rfl) rfl
theorem q2690 : (Jvm.Cond.instanceMethod ({ cls := "MasterTree$ByClass", name := "among", desc := "(LMasterTree$Master;)J" } : Jvm.MethodName)) ∈ lw_all := lw_g (lw_at lw_m11 210 rfl) rfl
theorem q2691 : (Jvm.Cond.code ({ cls := "MasterTree$ByClass", name := "among", desc := "(LMasterTree$Master;)J" } : Jvm.MethodName) prog_3_method_2_code (5 : Nat) (Option.some Jvm.ClassFile.FieldType.long)) ∈ lw_all := lw_g (lw_at lw_m11 211 rfl) rfl
theorem q2692 : (Jvm.Cond.interfaceEntry "MasterTree$ByClass" (19 : Nat)) ∈ lw_tbl := lw_at lw_m11 212 rfl
theorem q2693 : (Jvm.Cond.methodLink "MasterTree$ByClass" (19 : Nat) ({ cls := "java/util/List", name := "size", desc := "()I" } : Jvm.MethodName)) ∈ lw_all := lw_g (lw_at lw_m11 213 rfl) rfl
theorem q2694 : (Jvm.Cond.interfaceEntry "MasterTree$ByClass" (25 : Nat)) ∈ lw_tbl := lw_at lw_m11 214 rfl
theorem q2695 : (Jvm.Cond.methodLink "MasterTree$ByClass" (25 : Nat) ({ cls := "java/util/List", name := "get", desc := "(I)Ljava/lang/Object;" } : Jvm.MethodName)) ∈ lw_all := lw_g (lw_at lw_m11 215 rfl) rfl
theorem q2696 : (Jvm.Cond.classLink "MasterTree$ByClass" (29 : Nat) "MasterTree$Klass") ∈ lw_all := lw_g (lw_at lw_m11 216 rfl) rfl
theorem q2697 : (Jvm.Cond.methodLink "MasterTree$ByClass" (31 : Nat) ({ cls := "MasterTree$Klass", name := "isBeneath", desc := "(LMasterTree$Klass;)Z" } : Jvm.MethodName)) ∈ lw_all := lw_g (lw_at lw_m11 217 rfl) rfl
theorem q2698 : (Jvm.Cond.instanceMethod ({ cls := "MasterTree$Klass", name := "isBeneath", desc := "(LMasterTree$Klass;)Z" } : Jvm.MethodName)) ∈ lw_all := lw_g (lw_at lw_m11 218 rfl) rfl
theorem q2699 : (Jvm.Cond.selects "MasterTree$Klass" ({ cls := "MasterTree$Klass", name := "isBeneath", desc := "(LMasterTree$Klass;)Z" } : Jvm.MethodName) ({ cls := "MasterTree$Klass", name := "isBeneath", desc := "(LMasterTree$Klass;)Z" } : Jvm.MethodName)) ∈ lw_all := lw_g (lw_at lw_m11 219 rfl) rfl
theorem q2700 : (Jvm.Cond.code ({ cls := "MasterTree$Klass", name := "isBeneath", desc := "(LMasterTree$Klass;)Z" } : Jvm.MethodName) prog_20_method_2_code (3 : Nat) (Option.some Jvm.ClassFile.FieldType.boolean)) ∈ lw_all := lw_g (lw_at lw_m11 220 rfl) rfl
theorem q2701 : (Jvm.Cond.selects "MasterTree$ByValue" ({ cls := "MasterTree$Filter", name := "among", desc := "(LMasterTree$Master;)J" } : Jvm.MethodName) ({ cls := "MasterTree$ByValue", name := "among", desc := "(LMasterTree$Master;)J" } : Jvm.MethodName)) ∈ lw_all := lw_g (lw_at lw_m11 221 rfl) rfl
theorem q2702 : (Jvm.Cond.instanceMethod ({ cls := "MasterTree$ByValue", name := "among", desc := "(LMasterTree$Master;)J" } : Jvm.MethodName)) ∈ lw_all := lw_g (lw_at lw_m11 222 rfl) rfl
theorem q2703 : (Jvm.Cond.code ({ cls := "MasterTree$ByValue", name := "among", desc := "(LMasterTree$Master;)J" } : Jvm.MethodName) prog_4_method_2_code (8 : Nat) (Option.some Jvm.ClassFile.FieldType.long)) ∈ lw_all := lw_g (lw_at lw_m11 223 rfl) rfl
theorem q2704 : (Jvm.Cond.methodLink "MasterTree$ByValue" (28 : Nat) ({ cls := "java/lang/Integer", name := "valueOf", desc := "(I)Ljava/lang/Integer;" } : Jvm.MethodName)) ∈ lw_all := lw_g (lw_at lw_m11 224 rfl) rfl
theorem q2705 : (Jvm.Cond.methodLink "MasterTree$ByValue" (34 : Nat) ({ cls := "java/util/TreeMap", name := "subMap", desc := "(Ljava/lang/Object;Ljava/lang/Object;)Ljava/util/SortedMap;" } : Jvm.MethodName)) ∈ lw_all := lw_g (lw_at lw_m11 225 rfl) rfl
theorem q2706 : (Jvm.Cond.interfaceEntry "MasterTree$ByValue" (40 : Nat)) ∈ lw_tbl := lw_at lw_m11 226 rfl
theorem q2707 : (Jvm.Cond.methodLink "MasterTree$ByValue" (40 : Nat) ({ cls := "java/util/SortedMap", name := "values", desc := "()Ljava/util/Collection;" } : Jvm.MethodName)) ∈ lw_all := lw_g (lw_at lw_m11 227 rfl) rfl
theorem q2708 : (Jvm.Cond.interfaceMethod "java/util/SortedMap" "java/util/SortedMap" "values" "()Ljava/util/Collection;") ∈ lw_tbl := lw_at lw_m11 228 rfl
theorem q2709 : (Jvm.Cond.declares ({ cls := "java/util/SortedMap", name := "values", desc := "()Ljava/util/Collection;" } : Jvm.MethodName)) ∈ lw_tbl := lw_at lw_m11 229 rfl
theorem q2710 : (Jvm.Cond.castable "java/util/TreeMap" "java/util/SortedMap") ∈ lw_tbl := lw_at lw_m11 230 rfl
theorem q2711 : (Jvm.Cond.selects "java/util/TreeMap" ({ cls := "java/util/SortedMap", name := "values", desc := "()Ljava/util/Collection;" } : Jvm.MethodName) ({ cls := "java/util/TreeMap", name := "values", desc := "()Ljava/util/Collection;" } : Jvm.MethodName)) ∈ lw_all := lw_g (lw_at lw_m11 231 rfl) rfl
theorem q2712 : (Jvm.Cond.unhidden "java/util/TreeMap" "values" "()Ljava/util/Collection;") ∈ lw_tbl := lw_at lw_m11 232 rfl
theorem q2713 : (Jvm.Cond.instanceMethod ({ cls := "java/util/TreeMap", name := "values", desc := "()Ljava/util/Collection;" } : Jvm.MethodName)) ∈ lw_all := lw_g (lw_at lw_m11 233 rfl) rfl
theorem q2714 : (Jvm.Cond.publicMethod ({ cls := "java/util/TreeMap", name := "values", desc := "()Ljava/util/Collection;" } : Jvm.MethodName)) ∈ lw_tbl := lw_at lw_m11 234 rfl
theorem q2715 : (Jvm.Cond.code ({ cls := "java/util/TreeMap", name := "values", desc := "()Ljava/util/Collection;" } : Jvm.MethodName) prog_79_method_52_code (2 : Nat) (Option.some (Jvm.ClassFile.FieldType.object "java/util/Collection"))) ∈ lw_all := lw_g (lw_at lw_m11 235 rfl) rfl
theorem q2716 : (Jvm.Cond.classLink "java/util/TreeMap" (237 : Nat) "java/util/TreeMap$Values") ∈ lw_all := lw_g (lw_at lw_m11 236 rfl) rfl
theorem q2717 : (Jvm.Cond.instantiable "java/util/TreeMap$Values" (1 : Nat)) ∈ lw_all := lw_g (lw_at lw_m11 237 rfl) rfl
theorem q2718 : (Jvm.Cond.methodLink "java/util/TreeMap" (239 : Nat) ({ cls := "java/util/TreeMap$Values", name := "<init>", desc := "(Ljava/util/TreeMap;)V" } : Jvm.MethodName)) ∈ lw_all := lw_g (lw_at lw_m11 238 rfl) rfl
theorem q2719 : (Jvm.Cond.instanceMethod ({ cls := "java/util/TreeMap$Values", name := "<init>", desc := "(Ljava/util/TreeMap;)V" } : Jvm.MethodName)) ∈ lw_all := lw_g (lw_at lw_m11 239 rfl) rfl
theorem q2720 : (Jvm.Cond.code ({ cls := "java/util/TreeMap$Values", name := "<init>", desc := "(Ljava/util/TreeMap;)V" } : Jvm.MethodName) prog_94_method_1_code (2 : Nat) (Option.none : Option Jvm.ClassFile.FieldType)) ∈ lw_all := lw_g (lw_at lw_m12 0 rfl) rfl
theorem q2721 : (Jvm.Cond.methodLink "java/util/TreeMap$Values" (7 : Nat) ({ cls := "java/util/AbstractCollection", name := "<init>", desc := "()V" } : Jvm.MethodName)) ∈ lw_all := lw_g (lw_at lw_m12 1 rfl) rfl
theorem q2722 : (Jvm.Cond.fieldLink "java/util/TreeMap$Values" (1 : Nat) "java/util/TreeMap$Values" "this$0" "Ljava/util/TreeMap;") ∈ lw_all := lw_g (lw_at lw_m12 2 rfl) rfl
theorem q2723 : (Jvm.Cond.laysFinal "java/util/TreeMap$Values" "java/util/TreeMap$Values" "this$0" "Ljava/util/TreeMap;") ∈ lw_all := lw_g (lw_at lw_m12 3 rfl) rfl
theorem q2724 : (Jvm.Cond.soleField "java/util/TreeMap$Values" "this$0") ∈ lw_all := lw_g (lw_at lw_m12 4 rfl) rfl
theorem q2725 : (Jvm.Cond.superclass "java/util/TreeMap$Values" "java/util/AbstractCollection") ∈ lw_all := lw_g (lw_at lw_m12 5 rfl) rfl
theorem q2726 : (Jvm.Cond.castable "java/util/TreeMap$AscendingSubMap" "java/util/SortedMap") ∈ lw_tbl := lw_at lw_m12 6 rfl
theorem q2727 : (Jvm.Cond.selects "java/util/TreeMap$AscendingSubMap" ({ cls := "java/util/SortedMap", name := "values", desc := "()Ljava/util/Collection;" } : Jvm.MethodName) ({ cls := "java/util/AbstractMap", name := "values", desc := "()Ljava/util/Collection;" } : Jvm.MethodName)) ∈ lw_all := lw_g (lw_at lw_m12 7 rfl) rfl
theorem q2728 : (Jvm.Cond.unhidden "java/util/TreeMap$AscendingSubMap" "values" "()Ljava/util/Collection;") ∈ lw_tbl := lw_at lw_m12 8 rfl
theorem q2729 : (Jvm.Cond.instanceMethod ({ cls := "java/util/AbstractMap", name := "values", desc := "()Ljava/util/Collection;" } : Jvm.MethodName)) ∈ lw_all := lw_g (lw_at lw_m12 9 rfl) rfl
theorem q2730 : (Jvm.Cond.publicMethod ({ cls := "java/util/AbstractMap", name := "values", desc := "()Ljava/util/Collection;" } : Jvm.MethodName)) ∈ lw_tbl := lw_at lw_m12 10 rfl
theorem q2731 : (Jvm.Cond.code ({ cls := "java/util/AbstractMap", name := "values", desc := "()Ljava/util/Collection;" } : Jvm.MethodName) prog_55_method_12_code (2 : Nat) (Option.some (Jvm.ClassFile.FieldType.object "java/util/Collection"))) ∈ lw_all := lw_g (lw_at lw_m12 11 rfl) rfl
theorem q2732 : (Jvm.Cond.classLink "java/util/AbstractMap" (75 : Nat) "java/util/AbstractMap$2") ∈ lw_all := lw_g (lw_at lw_m12 12 rfl) rfl
theorem q2733 : (Jvm.Cond.instantiable "java/util/AbstractMap$2" (1 : Nat)) ∈ lw_all := lw_g (lw_at lw_m12 13 rfl) rfl
theorem q2734 : (Jvm.Cond.methodLink "java/util/AbstractMap" (77 : Nat) ({ cls := "java/util/AbstractMap$2", name := "<init>", desc := "(Ljava/util/AbstractMap;)V" } : Jvm.MethodName)) ∈ lw_all := lw_g (lw_at lw_m12 14 rfl) rfl
theorem q2735 : (Jvm.Cond.instanceMethod ({ cls := "java/util/AbstractMap$2", name := "<init>", desc := "(Ljava/util/AbstractMap;)V" } : Jvm.MethodName)) ∈ lw_all := lw_g (lw_at lw_m12 15 rfl) rfl
theorem q2736 : (Jvm.Cond.code ({ cls := "java/util/AbstractMap$2", name := "<init>", desc := "(Ljava/util/AbstractMap;)V" } : Jvm.MethodName) prog_56_method_1_code (2 : Nat) (Option.none : Option Jvm.ClassFile.FieldType)) ∈ lw_all := lw_g (lw_at lw_m12 16 rfl) rfl
theorem q2737 : (Jvm.Cond.methodLink "java/util/AbstractMap$2" (7 : Nat) ({ cls := "java/util/AbstractCollection", name := "<init>", desc := "()V" } : Jvm.MethodName)) ∈ lw_all := lw_g (lw_at lw_m12 17 rfl) rfl
theorem q2738 : (Jvm.Cond.fieldLink "java/util/AbstractMap$2" (1 : Nat) "java/util/AbstractMap$2" "this$0" "Ljava/util/AbstractMap;") ∈ lw_all := lw_g (lw_at lw_m12 18 rfl) rfl
theorem q2739 : (Jvm.Cond.fieldLink "java/util/AbstractMap$2$1" (13 : Nat) "java/util/AbstractMap$2" "this$0" "Ljava/util/AbstractMap;") ∈ lw_all := lw_g (lw_at lw_m12 19 rfl) rfl
theorem q2740 : (Jvm.Cond.laysFinal "java/util/AbstractMap$2" "java/util/AbstractMap$2" "this$0" "Ljava/util/AbstractMap;") ∈ lw_all := lw_g (lw_at lw_m12 20 rfl) rfl
theorem q2741 : (Jvm.Cond.soleField "java/util/AbstractMap$2" "this$0") ∈ lw_all := lw_g (lw_at lw_m12 21 rfl) rfl
theorem q2742 : (Jvm.Cond.superclass "java/util/AbstractMap$2" "java/util/AbstractCollection") ∈ lw_all := lw_g (lw_at lw_m12 22 rfl) rfl
theorem q2743 : (Jvm.Cond.interfaceEntry "MasterTree$ByValue" (46 : Nat)) ∈ lw_tbl := lw_at lw_m12 23 rfl
theorem q2744 : (Jvm.Cond.methodLink "MasterTree$ByValue" (46 : Nat) ({ cls := "java/util/Collection", name := "iterator", desc := "()Ljava/util/Iterator;" } : Jvm.MethodName)) ∈ lw_all := lw_g (lw_at lw_m12 24 rfl) rfl
theorem q2745 : (Jvm.Cond.interfaceMethod "java/util/Collection" "java/util/Collection" "iterator" "()Ljava/util/Iterator;") ∈ lw_tbl := lw_at lw_m12 25 rfl
theorem q2746 : (Jvm.Cond.declares ({ cls := "java/util/Collection", name := "iterator", desc := "()Ljava/util/Iterator;" } : Jvm.MethodName)) ∈ lw_tbl := lw_at lw_m12 26 rfl
theorem q2747 : (Jvm.Cond.castable "java/util/AbstractMap$2" "java/util/Collection") ∈ lw_tbl := lw_at lw_m12 27 rfl
theorem q2748 : (Jvm.Cond.selects "java/util/AbstractMap$2" ({ cls := "java/util/Collection", name := "iterator", desc := "()Ljava/util/Iterator;" } : Jvm.MethodName) ({ cls := "java/util/AbstractMap$2", name := "iterator", desc := "()Ljava/util/Iterator;" } : Jvm.MethodName)) ∈ lw_all := lw_g (lw_at lw_m12 28 rfl) rfl
theorem q2749 : (Jvm.Cond.unhidden "java/util/AbstractMap$2" "iterator" "()Ljava/util/Iterator;") ∈ lw_tbl := lw_at lw_m12 29 rfl
theorem q2750 : (Jvm.Cond.publicMethod ({ cls := "java/util/AbstractMap$2", name := "iterator", desc := "()Ljava/util/Iterator;" } : Jvm.MethodName)) ∈ lw_tbl := lw_at lw_m12 30 rfl
theorem q2751 : (Jvm.Cond.castable "java/util/ArrayList" "java/util/Collection") ∈ lw_tbl := lw_at lw_m12 31 rfl
theorem q2752 : (Jvm.Cond.selects "java/util/ArrayList" ({ cls := "java/util/Collection", name := "iterator", desc := "()Ljava/util/Iterator;" } : Jvm.MethodName) ({ cls := "java/util/ArrayList", name := "iterator", desc := "()Ljava/util/Iterator;" } : Jvm.MethodName)) ∈ lw_all := lw_g (lw_at lw_m12 32 rfl) rfl
theorem q2753 : (Jvm.Cond.castable "java/util/TreeMap$AscendingSubMap$AscendingEntrySetView" "java/util/Collection") ∈ lw_tbl := lw_at lw_m12 33 rfl
theorem q2754 : (Jvm.Cond.selects "java/util/TreeMap$AscendingSubMap$AscendingEntrySetView" ({ cls := "java/util/Collection", name := "iterator", desc := "()Ljava/util/Iterator;" } : Jvm.MethodName) ({ cls := "java/util/TreeMap$AscendingSubMap$AscendingEntrySetView", name := "iterator", desc := "()Ljava/util/Iterator;" } : Jvm.MethodName)) ∈ lw_all := lw_g (lw_at lw_m12 34 rfl) rfl
theorem q2755 : (Jvm.Cond.castable "java/util/TreeMap$EntrySet" "java/util/Collection") ∈ lw_tbl := lw_at lw_m12 35 rfl
theorem q2756 : (Jvm.Cond.selects "java/util/TreeMap$EntrySet" ({ cls := "java/util/Collection", name := "iterator", desc := "()Ljava/util/Iterator;" } : Jvm.MethodName) ({ cls := "java/util/TreeMap$EntrySet", name := "iterator", desc := "()Ljava/util/Iterator;" } : Jvm.MethodName)) ∈ lw_all := lw_g (lw_at lw_m12 36 rfl) rfl
theorem q2757 : (Jvm.Cond.castable "java/util/TreeMap$KeySet" "java/util/Collection") ∈ lw_tbl := lw_at lw_m12 37 rfl
theorem q2758 : (Jvm.Cond.selects "java/util/TreeMap$KeySet" ({ cls := "java/util/Collection", name := "iterator", desc := "()Ljava/util/Iterator;" } : Jvm.MethodName) ({ cls := "java/util/TreeMap$KeySet", name := "iterator", desc := "()Ljava/util/Iterator;" } : Jvm.MethodName)) ∈ lw_all := lw_g (lw_at lw_m12 38 rfl) rfl
theorem q2759 : (Jvm.Cond.castable "java/util/TreeMap$Values" "java/util/Collection") ∈ lw_tbl := lw_at lw_m12 39 rfl
theorem q2760 : (Jvm.Cond.selects "java/util/TreeMap$Values" ({ cls := "java/util/Collection", name := "iterator", desc := "()Ljava/util/Iterator;" } : Jvm.MethodName) ({ cls := "java/util/TreeMap$Values", name := "iterator", desc := "()Ljava/util/Iterator;" } : Jvm.MethodName)) ∈ lw_all := lw_g (lw_at lw_m12 40 rfl) rfl
theorem q2761 : (Jvm.Cond.unhidden "java/util/TreeMap$Values" "iterator" "()Ljava/util/Iterator;") ∈ lw_tbl := lw_at lw_m12 41 rfl
theorem q2762 : (Jvm.Cond.publicMethod ({ cls := "java/util/TreeMap$Values", name := "iterator", desc := "()Ljava/util/Iterator;" } : Jvm.MethodName)) ∈ lw_tbl := lw_at lw_m12 42 rfl
theorem q2763 : (Jvm.Cond.interfaceEntry "MasterTree$ByValue" (52 : Nat)) ∈ lw_tbl := lw_at lw_m12 43 rfl
theorem q2764 : (Jvm.Cond.methodLink "MasterTree$ByValue" (52 : Nat) ({ cls := "java/util/Iterator", name := "hasNext", desc := "()Z" } : Jvm.MethodName)) ∈ lw_all := lw_g (lw_at lw_m12 44 rfl) rfl
theorem q2765 : (Jvm.Cond.interfaceEntry "MasterTree$ByValue" (58 : Nat)) ∈ lw_tbl := lw_at lw_m12 45 rfl
theorem q2766 : (Jvm.Cond.methodLink "MasterTree$ByValue" (58 : Nat) ({ cls := "java/util/Iterator", name := "next", desc := "()Ljava/lang/Object;" } : Jvm.MethodName)) ∈ lw_all := lw_g (lw_at lw_m12 46 rfl) rfl
theorem q2767 : (Jvm.Cond.classLink "MasterTree$ByValue" (62 : Nat) "java/lang/Long") ∈ lw_all := lw_g (lw_at lw_m12 47 rfl) rfl
theorem q2768 : (Jvm.Cond.methodLink "MasterTree$ByValue" (64 : Nat) ({ cls := "java/lang/Long", name := "longValue", desc := "()J" } : Jvm.MethodName)) ∈ lw_all := lw_g (lw_at lw_m12 48 rfl) rfl
theorem q2769 : (Jvm.Cond.selects "MasterTree$Combined" ({ cls := "MasterTree$Filter", name := "among", desc := "(LMasterTree$Master;)J" } : Jvm.MethodName) ({ cls := "MasterTree$Combined", name := "among", desc := "(LMasterTree$Master;)J" } : Jvm.MethodName)) ∈ lw_all := lw_g (lw_at lw_m12 49 rfl) rfl
theorem q2770 : (Jvm.Cond.instanceMethod ({ cls := "MasterTree$Combined", name := "among", desc := "(LMasterTree$Master;)J" } : Jvm.MethodName)) ∈ lw_all := lw_g (lw_at lw_m12 50 rfl) rfl
theorem q2771 : (Jvm.Cond.code ({ cls := "MasterTree$Combined", name := "among", desc := "(LMasterTree$Master;)J" } : Jvm.MethodName) prog_6_method_2_code (2 : Nat) (Option.some Jvm.ClassFile.FieldType.long)) ∈ lw_all := lw_g (lw_at lw_m12 51 rfl) rfl
theorem q2772 : (Jvm.Cond.methodLink "MasterTree$Combined" (20 : Nat) ({ cls := "MasterTree$Filter", name := "among", desc := "(LMasterTree$Master;)J" } : Jvm.MethodName)) ∈ lw_all := lw_g (lw_at lw_m12 52 rfl) rfl
theorem q2773 : (Jvm.Cond.instanceMethod ({ cls := "MasterTree$Not", name := "among", desc := "(LMasterTree$Master;)J" } : Jvm.MethodName)) ∈ lw_all := lw_g (lw_at lw_m12 53 rfl) rfl
theorem q2774 : (Jvm.Cond.code ({ cls := "MasterTree$Not", name := "among", desc := "(LMasterTree$Master;)J" } : Jvm.MethodName) prog_22_method_2_code (2 : Nat) (Option.some Jvm.ClassFile.FieldType.long)) ∈ lw_all := lw_g (lw_at lw_m12 54 rfl) rfl
theorem q2775 : (Jvm.Cond.methodLink "MasterTree$Not" (13 : Nat) ({ cls := "MasterTree$Master", name := "liveOnes", desc := "()J" } : Jvm.MethodName)) ∈ lw_all := lw_g (lw_at lw_m12 55 rfl) rfl
theorem q2776 : (Jvm.Cond.instanceMethod ({ cls := "MasterTree$Master", name := "liveOnes", desc := "()J" } : Jvm.MethodName)) ∈ lw_all := lw_g (lw_at lw_m12 56 rfl) rfl
theorem q2777 : (Jvm.Cond.selects "MasterTree$Master" ({ cls := "MasterTree$Master", name := "liveOnes", desc := "()J" } : Jvm.MethodName) ({ cls := "MasterTree$Master", name := "liveOnes", desc := "()J" } : Jvm.MethodName)) ∈ lw_all := lw_g (lw_at lw_m12 57 rfl) rfl
theorem q2778 : (Jvm.Cond.code ({ cls := "MasterTree$Master", name := "liveOnes", desc := "()J" } : Jvm.MethodName) prog_21_method_3_code (4 : Nat) (Option.some Jvm.ClassFile.FieldType.long)) ∈ lw_all := lw_g (lw_at lw_m12 58 rfl) rfl
theorem q2779 : (Jvm.Cond.methodLink "MasterTree$Not" (19 : Nat) ({ cls := "MasterTree$Filter", name := "among", desc := "(LMasterTree$Master;)J" } : Jvm.MethodName)) ∈ lw_all := lw_g (lw_at lw_m12 59 rfl) rfl
theorem q2780 : (Jvm.Cond.constantLong "MasterTree$Not" (23 : Nat) (-1 : Int64)) ∈ lw_all := lw_g (lw_at lw_m12 60 rfl) rfl
theorem q2781 : (Jvm.Cond.selects "MasterTree$Not" ({ cls := "MasterTree$Filter", name := "among", desc := "(LMasterTree$Master;)J" } : Jvm.MethodName) ({ cls := "MasterTree$Not", name := "among", desc := "(LMasterTree$Master;)J" } : Jvm.MethodName)) ∈ lw_all := lw_g (lw_at lw_m12 61 rfl) rfl
theorem q2782 : (Jvm.Cond.methodLink "MasterTree" (445 : Nat) ({ cls := "MasterTree", name := "belongs", desc := "(LMasterTree$Master;III)Z" } : Jvm.MethodName)) ∈ lw_all := lw_g (lw_at lw_m12 62 rfl) rfl
theorem q2783 : (Jvm.Cond.static ({ cls := "MasterTree", name := "belongs", desc := "(LMasterTree$Master;III)Z" } : Jvm.MethodName)) ∈ lw_all := lw_g (lw_at lw_m12 63 rfl) rfl
theorem q2784 : (Jvm.Cond.code ({ cls := "MasterTree", name := "belongs", desc := "(LMasterTree$Master;III)Z" } : Jvm.MethodName) prog_1_method_45_code (5 : Nat) (Option.some Jvm.ClassFile.FieldType.boolean)) ∈ lw_all := lw_g (lw_at lw_m12 64 rfl) rfl
theorem q2785 : (Jvm.Cond.methodLink "MasterTree" (449 : Nat) ({ cls := "java/lang/Integer", name := "valueOf", desc := "(I)Ljava/lang/Integer;" } : Jvm.MethodName)) ∈ lw_all := lw_g (lw_at lw_m12 65 rfl) rfl
theorem q2786 : (Jvm.Cond.methodLink "MasterTreeLaw" (230 : Nat) ({ cls := "MasterTreeLaw", name := "searchByWalk", desc := "(LMasterTree;III[J)I" } : Jvm.MethodName)) ∈ lw_all := lw_g (lw_at lw_m12 66 rfl) rfl
theorem q2787 : (Jvm.Cond.static ({ cls := "MasterTreeLaw", name := "searchByWalk", desc := "(LMasterTree;III[J)I" } : Jvm.MethodName)) ∈ lw_all := lw_g (lw_at lw_m12 67 rfl) rfl
theorem q2788 : (Jvm.Cond.codeWith ({ cls := "MasterTreeLaw", name := "searchByWalk", desc := "(LMasterTree;III[J)I" } : Jvm.MethodName) method_25_code (6 : Nat) (Option.some Jvm.ClassFile.FieldType.int) [((0 : Nat), (12 : Nat), (15 : Nat), (19 : Nat)), ((0 : Nat), (12 : Nat), (19 : Nat), (13 : Nat))]) ∈ lw_all := lw_g (lw_at lw_m12 68 rfl) rfl
theorem q2789 : (Jvm.Cond.methodLink "MasterTreeLaw" (89 : Nat) ({ cls := "MasterTree", name := "searchByWalk", desc := "(III)I" } : Jvm.MethodName)) ∈ lw_all := lw_g (lw_at lw_m12 69 rfl) rfl
theorem q2790 : (Jvm.Cond.instanceMethod ({ cls := "MasterTree", name := "searchByWalk", desc := "(III)I" } : Jvm.MethodName)) ∈ lw_all := lw_g (lw_at lw_m12 70 rfl) rfl
theorem q2791 : (Jvm.Cond.selects "MasterTree" ({ cls := "MasterTree", name := "searchByWalk", desc := "(III)I" } : Jvm.MethodName) ({ cls := "MasterTree", name := "searchByWalk", desc := "(III)I" } : Jvm.MethodName)) ∈ lw_all := lw_g (lw_at lw_m12 71 rfl) rfl
theorem q2792 : (Jvm.Cond.code ({ cls := "MasterTree", name := "searchByWalk", desc := "(III)I" } : Jvm.MethodName) prog_1_method_48_code (13 : Nat) (Option.some Jvm.ClassFile.FieldType.int)) ∈ lw_all := lw_g (lw_at lw_m12 72 rfl) rfl
theorem q2793 : (Jvm.Cond.classLink "MasterTree" (450 : Nat) "java/lang/Integer") ∈ lw_all := lw_g (lw_at lw_m12 73 rfl) rfl
theorem q2794 : (Jvm.Cond.methodLink "MasterTree" (455 : Nat) ({ cls := "java/lang/Integer", name := "intValue", desc := "()I" } : Jvm.MethodName)) ∈ lw_all := lw_g (lw_at lw_m12 74 rfl) rfl
theorem q2795 : (Jvm.Cond.methodLink "MasterTree" (458 : Nat) ({ cls := "MasterTree$Filter", name := "applies", desc := "(LMasterTree$Master;LMasterTree$Entry;)Z" } : Jvm.MethodName)) ∈ lw_all := lw_g (lw_at lw_m12 75 rfl) rfl
theorem q2796 : (Jvm.Cond.declares ({ cls := "MasterTree$Filter", name := "applies", desc := "(LMasterTree$Master;LMasterTree$Entry;)Z" } : Jvm.MethodName)) ∈ lw_tbl := lw_at lw_m12 76 rfl
theorem q2797 : (Jvm.Cond.sameMethod "MasterTree$Filter" "MasterTree$Filter" "applies" "(LMasterTree$Master;LMasterTree$Entry;)Z") ∈ lw_all := lw_g (lw_at lw_m12 77 rfl) rfl
theorem q2798 : (Jvm.Cond.selects "MasterTree$ByClass" ({ cls := "MasterTree$Filter", name := "applies", desc := "(LMasterTree$Master;LMasterTree$Entry;)Z" } : Jvm.MethodName) ({ cls := "MasterTree$ByClass", name := "applies", desc := "(LMasterTree$Master;LMasterTree$Entry;)Z" } : Jvm.MethodName)) ∈ lw_all := lw_g (lw_at lw_m12 78 rfl) rfl
theorem q2799 : (Jvm.Cond.instanceMethod ({ cls := "MasterTree$ByClass", name := "applies", desc := "(LMasterTree$Master;LMasterTree$Entry;)Z" } : Jvm.MethodName)) ∈ lw_all := lw_g (lw_at lw_m12 79 rfl) rfl
theorem q2800 : (Jvm.Cond.code ({ cls := "MasterTree$ByClass", name := "applies", desc := "(LMasterTree$Master;LMasterTree$Entry;)Z" } : Jvm.MethodName) prog_3_method_3_code (3 : Nat) (Option.some Jvm.ClassFile.FieldType.boolean)) ∈ lw_all := lw_g (lw_at lw_m12 80 rfl) rfl
theorem q2801 : (Jvm.Cond.selects "MasterTree$ByValue" ({ cls := "MasterTree$Filter", name := "applies", desc := "(LMasterTree$Master;LMasterTree$Entry;)Z" } : Jvm.MethodName) ({ cls := "MasterTree$ByValue", name := "applies", desc := "(LMasterTree$Master;LMasterTree$Entry;)Z" } : Jvm.MethodName)) ∈ lw_all := lw_g (lw_at lw_m12 81 rfl) rfl
theorem q2802 : (Jvm.Cond.instanceMethod ({ cls := "MasterTree$ByValue", name := "applies", desc := "(LMasterTree$Master;LMasterTree$Entry;)Z" } : Jvm.MethodName)) ∈ lw_all := lw_g (lw_at lw_m12 82 rfl) rfl
theorem q2803 : (Jvm.Cond.code ({ cls := "MasterTree$ByValue", name := "applies", desc := "(LMasterTree$Master;LMasterTree$Entry;)Z" } : Jvm.MethodName) prog_4_method_3_code (7 : Nat) (Option.some Jvm.ClassFile.FieldType.boolean)) ∈ lw_all := lw_g (lw_at lw_m12 83 rfl) rfl
theorem q2804 : (Jvm.Cond.methodLink "MasterTree$ByValue" (68 : Nat) ({ cls := "MasterTree$Entry", name := "valuesOf", desc := "(I)Ljava/util/Map;" } : Jvm.MethodName)) ∈ lw_all := lw_g (lw_at lw_m12 84 rfl) rfl
theorem q2805 : (Jvm.Cond.interfaceEntry "MasterTree$ByValue" (74 : Nat)) ∈ lw_tbl := lw_at lw_m12 85 rfl
theorem q2806 : (Jvm.Cond.methodLink "MasterTree$ByValue" (74 : Nat) ({ cls := "java/util/Map", name := "keySet", desc := "()Ljava/util/Set;" } : Jvm.MethodName)) ∈ lw_all := lw_g (lw_at lw_m12 86 rfl) rfl
theorem q2807 : (Jvm.Cond.interfaceMethod "java/util/Map" "java/util/Map" "keySet" "()Ljava/util/Set;") ∈ lw_tbl := lw_at lw_m12 87 rfl
theorem q2808 : (Jvm.Cond.declares ({ cls := "java/util/Map", name := "keySet", desc := "()Ljava/util/Set;" } : Jvm.MethodName)) ∈ lw_tbl := lw_at lw_m12 88 rfl
theorem q2809 : (Jvm.Cond.selects "java/util/TreeMap" ({ cls := "java/util/Map", name := "keySet", desc := "()Ljava/util/Set;" } : Jvm.MethodName) ({ cls := "java/util/TreeMap", name := "keySet", desc := "()Ljava/util/Set;" } : Jvm.MethodName)) ∈ lw_all := lw_g (lw_at lw_m12 89 rfl) rfl
theorem q2810 : (Jvm.Cond.unhidden "java/util/TreeMap" "keySet" "()Ljava/util/Set;") ∈ lw_tbl := lw_at lw_m12 90 rfl
theorem q2811 : (Jvm.Cond.publicMethod ({ cls := "java/util/TreeMap", name := "keySet", desc := "()Ljava/util/Set;" } : Jvm.MethodName)) ∈ lw_tbl := lw_at lw_m12 91 rfl
theorem q2812 : (Jvm.Cond.selects "java/util/TreeMap$AscendingSubMap" ({ cls := "java/util/Map", name := "keySet", desc := "()Ljava/util/Set;" } : Jvm.MethodName) ({ cls := "java/util/TreeMap$NavigableSubMap", name := "keySet", desc := "()Ljava/util/Set;" } : Jvm.MethodName)) ∈ lw_all := lw_g (lw_at lw_m12 92 rfl) rfl
theorem q2813 : (Jvm.Cond.unhidden "java/util/TreeMap$AscendingSubMap" "keySet" "()Ljava/util/Set;") ∈ lw_tbl := lw_at lw_m12 93 rfl
theorem q2814 : (Jvm.Cond.instanceMethod ({ cls := "java/util/TreeMap$NavigableSubMap", name := "keySet", desc := "()Ljava/util/Set;" } : Jvm.MethodName)) ∈ lw_all := lw_g (lw_at lw_m12 94 rfl) rfl
theorem q2815 : (Jvm.Cond.publicMethod ({ cls := "java/util/TreeMap$NavigableSubMap", name := "keySet", desc := "()Ljava/util/Set;" } : Jvm.MethodName)) ∈ lw_tbl := lw_at lw_m12 95 rfl
theorem q2816 : (Jvm.Cond.code ({ cls := "java/util/TreeMap$NavigableSubMap", name := "keySet", desc := "()Ljava/util/Set;" } : Jvm.MethodName) prog_87_method_50_code (1 : Nat) (Option.some (Jvm.ClassFile.FieldType.object "java/util/Set"))) ∈ lw_all := lw_g (lw_at lw_m12 96 rfl) rfl
theorem q2817 : (Jvm.Cond.methodLink "java/util/TreeMap$NavigableSubMap" (190 : Nat) ({ cls := "java/util/TreeMap$NavigableSubMap", name := "navigableKeySet", desc := "()Ljava/util/NavigableSet;" } : Jvm.MethodName)) ∈ lw_all := lw_g (lw_at lw_m12 97 rfl) rfl
theorem q2818 : (Jvm.Cond.instanceMethod ({ cls := "java/util/TreeMap$NavigableSubMap", name := "navigableKeySet", desc := "()Ljava/util/NavigableSet;" } : Jvm.MethodName)) ∈ lw_all := lw_g (lw_at lw_m12 98 rfl) rfl
theorem q2819 : (Jvm.Cond.sameMethod "java/util/TreeMap$NavigableSubMap" "java/util/TreeMap$NavigableSubMap" "navigableKeySet" "()Ljava/util/NavigableSet;") ∈ lw_all := lw_g (lw_at lw_m12 99 rfl) rfl
theorem q2820 : (Jvm.Cond.selects "java/util/TreeMap$AscendingSubMap" ({ cls := "java/util/TreeMap$NavigableSubMap", name := "navigableKeySet", desc := "()Ljava/util/NavigableSet;" } : Jvm.MethodName) ({ cls := "java/util/TreeMap$NavigableSubMap", name := "navigableKeySet", desc := "()Ljava/util/NavigableSet;" } : Jvm.MethodName)) ∈ lw_all := lw_g (lw_at lw_m12 100 rfl) rfl
theorem q2821 : (Jvm.Cond.code ({ cls := "java/util/TreeMap$NavigableSubMap", name := "navigableKeySet", desc := "()Ljava/util/NavigableSet;" } : Jvm.MethodName) prog_87_method_49_code (2 : Nat) (Option.some (Jvm.ClassFile.FieldType.object "java/util/NavigableSet"))) ∈ lw_all := lw_g (lw_at lw_m12 101 rfl) rfl
theorem q2822 : (Jvm.Cond.classLink "java/util/TreeMap$NavigableSubMap" (185 : Nat) "java/util/TreeMap$KeySet") ∈ lw_all := lw_g (lw_at lw_m12 102 rfl) rfl
theorem q2823 : (Jvm.Cond.methodLink "java/util/TreeMap$NavigableSubMap" (187 : Nat) ({ cls := "java/util/TreeMap$KeySet", name := "<init>", desc := "(Ljava/util/NavigableMap;)V" } : Jvm.MethodName)) ∈ lw_all := lw_g (lw_at lw_m12 103 rfl) rfl
theorem q2824 : (Jvm.Cond.interfaceEntry "MasterTree$ByValue" (80 : Nat)) ∈ lw_tbl := lw_at lw_m12 104 rfl
theorem q2825 : (Jvm.Cond.methodLink "MasterTree$ByValue" (80 : Nat) ({ cls := "java/util/Set", name := "iterator", desc := "()Ljava/util/Iterator;" } : Jvm.MethodName)) ∈ lw_all := lw_g (lw_at lw_m12 105 rfl) rfl
theorem q2826 : (Jvm.Cond.classLink "MasterTree$ByValue" (29 : Nat) "java/lang/Integer") ∈ lw_all := lw_g (lw_at lw_m12 106 rfl) rfl
theorem q2827 : (Jvm.Cond.methodLink "MasterTree$ByValue" (83 : Nat) ({ cls := "java/lang/Integer", name := "intValue", desc := "()I" } : Jvm.MethodName)) ∈ lw_all := lw_g (lw_at lw_m12 107 rfl) rfl
theorem q2828 : (Jvm.Cond.selects "MasterTree$Combined" ({ cls := "MasterTree$Filter", name := "applies", desc := "(LMasterTree$Master;LMasterTree$Entry;)Z" } : Jvm.MethodName) ({ cls := "MasterTree$Combined", name := "applies", desc := "(LMasterTree$Master;LMasterTree$Entry;)Z" } : Jvm.MethodName)) ∈ lw_all := lw_g (lw_at lw_m12 108 rfl) rfl
theorem q2829 : (Jvm.Cond.instanceMethod ({ cls := "MasterTree$Combined", name := "applies", desc := "(LMasterTree$Master;LMasterTree$Entry;)Z" } : Jvm.MethodName)) ∈ lw_all := lw_g (lw_at lw_m12 109 rfl) rfl
theorem q2830 : (Jvm.Cond.code ({ cls := "MasterTree$Combined", name := "applies", desc := "(LMasterTree$Master;LMasterTree$Entry;)Z" } : Jvm.MethodName) prog_6_method_3_code (3 : Nat) (Option.some Jvm.ClassFile.FieldType.boolean)) ∈ lw_all := lw_g (lw_at lw_m12 110 rfl) rfl
theorem q2831 : (Jvm.Cond.methodLink "MasterTree$Combined" (24 : Nat) ({ cls := "MasterTree$Filter", name := "applies", desc := "(LMasterTree$Master;LMasterTree$Entry;)Z" } : Jvm.MethodName)) ∈ lw_all := lw_g (lw_at lw_m12 111 rfl) rfl
theorem q2832 : (Jvm.Cond.instanceMethod ({ cls := "MasterTree$Not", name := "applies", desc := "(LMasterTree$Master;LMasterTree$Entry;)Z" } : Jvm.MethodName)) ∈ lw_all := lw_g (lw_at lw_m12 112 rfl) rfl
theorem q2833 : (Jvm.Cond.code ({ cls := "MasterTree$Not", name := "applies", desc := "(LMasterTree$Master;LMasterTree$Entry;)Z" } : Jvm.MethodName) prog_22_method_3_code (3 : Nat) (Option.some Jvm.ClassFile.FieldType.boolean)) ∈ lw_all := lw_g (lw_at lw_m12 113 rfl) rfl
theorem q2834 : (Jvm.Cond.methodLink "MasterTree$Not" (25 : Nat) ({ cls := "MasterTree$Filter", name := "applies", desc := "(LMasterTree$Master;LMasterTree$Entry;)Z" } : Jvm.MethodName)) ∈ lw_all := lw_g (lw_at lw_m12 114 rfl) rfl
theorem q2835 : (Jvm.Cond.selects "MasterTree$Not" ({ cls := "MasterTree$Filter", name := "applies", desc := "(LMasterTree$Master;LMasterTree$Entry;)Z" } : Jvm.MethodName) ({ cls := "MasterTree$Not", name := "applies", desc := "(LMasterTree$Master;LMasterTree$Entry;)Z" } : Jvm.MethodName)) ∈ lw_all := lw_g (lw_at lw_m12 115 rfl) rfl
theorem q2836 : (Jvm.Cond.methodLink "MasterTreeLaw" (233 : Nat) ({ cls := "MasterTreeLaw", name := "follow", desc := "(LMasterTree;III[J)I" } : Jvm.MethodName)) ∈ lw_all := lw_g (lw_at lw_m12 116 rfl) rfl
theorem q2837 : (Jvm.Cond.static ({ cls := "MasterTreeLaw", name := "follow", desc := "(LMasterTree;III[J)I" } : Jvm.MethodName)) ∈ lw_all := lw_g (lw_at lw_m12 117 rfl) rfl
theorem q2838 : (Jvm.Cond.codeWith ({ cls := "MasterTreeLaw", name := "follow", desc := "(LMasterTree;III[J)I" } : Jvm.MethodName) method_26_code (6 : Nat) (Option.some Jvm.ClassFile.FieldType.int) [((0 : Nat), (12 : Nat), (15 : Nat), (19 : Nat)), ((0 : Nat), (12 : Nat), (19 : Nat), (13 : Nat))]) ∈ lw_all := lw_g (lw_at lw_m12 118 rfl) rfl
theorem q2839 : (Jvm.Cond.methodLink "MasterTreeLaw" (92 : Nat) ({ cls := "MasterTree", name := "follow", desc := "(III)I" } : Jvm.MethodName)) ∈ lw_all := lw_g (lw_at lw_m12 119 rfl) rfl
theorem q2840 : (Jvm.Cond.instanceMethod ({ cls := "MasterTree", name := "follow", desc := "(III)I" } : Jvm.MethodName)) ∈ lw_all := lw_g (lw_at lw_m12 120 rfl) rfl
theorem q2841 : (Jvm.Cond.selects "MasterTree" ({ cls := "MasterTree", name := "follow", desc := "(III)I" } : Jvm.MethodName) ({ cls := "MasterTree", name := "follow", desc := "(III)I" } : Jvm.MethodName)) ∈ lw_all := lw_g (lw_at lw_m12 121 rfl) rfl
theorem q2842 : (Jvm.Cond.code ({ cls := "MasterTree", name := "follow", desc := "(III)I" } : Jvm.MethodName) prog_1_method_49_code (5 : Nat) (Option.some Jvm.ClassFile.FieldType.int)) ∈ lw_all := lw_g (lw_at lw_m12 122 rfl) rfl
theorem q2843 : (Jvm.Cond.classLink "MasterTree" (462 : Nat) "MasterTree$Following") ∈ lw_all := lw_g (lw_at lw_m12 123 rfl) rfl
theorem q2844 : (Jvm.Cond.instantiable "MasterTree$Following" (6 : Nat)) ∈ lw_all := lw_g (lw_at lw_m12 124 rfl) rfl
theorem q2845 : (Jvm.Cond.methodLink "MasterTree" (464 : Nat) ({ cls := "MasterTree$Following", name := "<init>", desc := "(LMasterTree;LMasterTree$Master;II)V" } : Jvm.MethodName)) ∈ lw_all := lw_g (lw_at lw_m12 125 rfl) rfl
theorem q2846 : (Jvm.Cond.instanceMethod ({ cls := "MasterTree$Following", name := "<init>", desc := "(LMasterTree;LMasterTree$Master;II)V" } : Jvm.MethodName)) ∈ lw_all := lw_g (lw_at lw_m12 126 rfl) rfl
theorem q2847 : (Jvm.Cond.code ({ cls := "MasterTree$Following", name := "<init>", desc := "(LMasterTree;LMasterTree$Master;II)V" } : Jvm.MethodName) prog_9_method_1_code (6 : Nat) (Option.none : Option Jvm.ClassFile.FieldType)) ∈ lw_all := lw_g (lw_at lw_m12 127 rfl) rfl
theorem q2848 : (Jvm.Cond.methodLink "MasterTree$Following" (9 : Nat) ({ cls := "java/lang/Object", name := "<init>", desc := "()V" } : Jvm.MethodName)) ∈ lw_all := lw_g (lw_at lw_m12 128 rfl) rfl
theorem q2849 : (Jvm.Cond.methodLinkNest "MasterTree$Following" (15 : Nat) ({ cls := "MasterTree", name := "filter", desc := "()LMasterTree$Filter;" } : Jvm.MethodName) "MasterTree") ∈ lw_tbl := lw_at lw_m12 129 rfl
theorem q2850 : (Jvm.Cond.classLink "MasterTree$Following" (26 : Nat) "java/util/ArrayList") ∈ lw_all := lw_g (lw_at lw_m12 130 rfl) rfl
theorem q2851 : (Jvm.Cond.methodLink "MasterTree$Following" (28 : Nat) ({ cls := "java/util/ArrayList", name := "<init>", desc := "()V" } : Jvm.MethodName)) ∈ lw_all := lw_g (lw_at lw_m12 131 rfl) rfl
theorem q2852 : (Jvm.Cond.interfaceEntry "MasterTree$Following" (46 : Nat)) ∈ lw_tbl := lw_at lw_m12 132 rfl
theorem q2853 : (Jvm.Cond.methodLink "MasterTree$Following" (46 : Nat) ({ cls := "java/util/List", name := "clear", desc := "()V" } : Jvm.MethodName)) ∈ lw_all := lw_g (lw_at lw_m12 133 rfl) rfl
theorem q2854 : (Jvm.Cond.methodLink "MasterTree$Following" (51 : Nat) ({ cls := "MasterTree$Following", name := "comes", desc := "(LMasterTree$Master;II)V" } : Jvm.MethodName)) ∈ lw_all := lw_g (lw_at lw_m12 134 rfl) rfl
theorem q2855 : (Jvm.Cond.privateMethod ({ cls := "MasterTree$Following", name := "comes", desc := "(LMasterTree$Master;II)V" } : Jvm.MethodName)) ∈ lw_tbl := lw_at lw_m12 135 rfl
theorem q2856 : (Jvm.Cond.instanceMethod ({ cls := "MasterTree$Following", name := "comes", desc := "(LMasterTree$Master;II)V" } : Jvm.MethodName)) ∈ lw_all := lw_g (lw_at lw_m12 136 rfl) rfl
theorem q2857 : (Jvm.Cond.code ({ cls := "MasterTree$Following", name := "comes", desc := "(LMasterTree$Master;II)V" } : Jvm.MethodName) prog_9_method_2_code (8 : Nat) (Option.none : Option Jvm.ClassFile.FieldType)) ∈ lw_all := lw_g (lw_at lw_m12 137 rfl) rfl
theorem q2858 : (Jvm.Cond.methodLink "MasterTree$Following" (75 : Nat) ({ cls := "MasterTree$Master", name := "isLive", desc := "(I)Z" } : Jvm.MethodName)) ∈ lw_all := lw_g (lw_at lw_m12 138 rfl) rfl
theorem q2859 : (Jvm.Cond.methodLink "MasterTree$Following" (91 : Nat) ({ cls := "MasterTree$Following", name := "arrives", desc := "(LMasterTree$Master;II)V" } : Jvm.MethodName)) ∈ lw_all := lw_g (lw_at lw_m12 139 rfl) rfl
theorem q2860 : (Jvm.Cond.privateMethod ({ cls := "MasterTree$Following", name := "arrives", desc := "(LMasterTree$Master;II)V" } : Jvm.MethodName)) ∈ lw_tbl := lw_at lw_m12 140 rfl
theorem q2861 : (Jvm.Cond.instanceMethod ({ cls := "MasterTree$Following", name := "arrives", desc := "(LMasterTree$Master;II)V" } : Jvm.MethodName)) ∈ lw_all := lw_g (lw_at lw_m12 141 rfl) rfl
theorem q2862 : (Jvm.Cond.code ({ cls := "MasterTree$Following", name := "arrives", desc := "(LMasterTree$Master;II)V" } : Jvm.MethodName) prog_9_method_3_code (8 : Nat) (Option.none : Option Jvm.ClassFile.FieldType)) ∈ lw_all := lw_g (lw_at lw_m12 142 rfl) rfl
theorem q2863 : (Jvm.Cond.methodLink "MasterTree$Following" (94 : Nat) ({ cls := "MasterTree$Filter", name := "applies", desc := "(LMasterTree$Master;LMasterTree$Entry;)Z" } : Jvm.MethodName)) ∈ lw_all := lw_g (lw_at lw_m12 143 rfl) rfl
theorem q2864 : (Jvm.Cond.methodLink "MasterTree$Following" (100 : Nat) ({ cls := "MasterTree$Master", name := "may", desc := "(III)Z" } : Jvm.MethodName)) ∈ lw_all := lw_g (lw_at lw_m12 144 rfl) rfl
theorem q2865 : (Jvm.Cond.methodLink "MasterTree$Following" (104 : Nat) ({ cls := "java/lang/Integer", name := "valueOf", desc := "(I)Ljava/lang/Integer;" } : Jvm.MethodName)) ∈ lw_all := lw_g (lw_at lw_m12 145 rfl) rfl
theorem q2866 : (Jvm.Cond.interfaceEntry "MasterTree$Following" (110 : Nat)) ∈ lw_tbl := lw_at lw_m12 146 rfl
theorem q2867 : (Jvm.Cond.methodLink "MasterTree$Following" (110 : Nat) ({ cls := "java/util/List", name := "add", desc := "(Ljava/lang/Object;)Z" } : Jvm.MethodName)) ∈ lw_all := lw_g (lw_at lw_m12 147 rfl) rfl
theorem q2868 : (Jvm.Cond.interfaceEntry "MasterTree$Following" (59 : Nat)) ∈ lw_tbl := lw_at lw_m12 148 rfl
theorem q2869 : (Jvm.Cond.methodLink "MasterTree$Following" (59 : Nat) ({ cls := "java/util/List", name := "size", desc := "()I" } : Jvm.MethodName)) ∈ lw_all := lw_g (lw_at lw_m12 149 rfl) rfl
theorem q2870 : (Jvm.Cond.methodLink "MasterTree$Following" (114 : Nat) ({ cls := "MasterTree$Master", name := "next", desc := "(II)I" } : Jvm.MethodName)) ∈ lw_all := lw_g (lw_at lw_m12 150 rfl) rfl
theorem q2871 : (Jvm.Cond.interfaceEntry "MasterTree$Following" (118 : Nat)) ∈ lw_tbl := lw_at lw_m12 151 rfl
theorem q2872 : (Jvm.Cond.methodLink "MasterTree$Following" (118 : Nat) ({ cls := "java/util/List", name := "add", desc := "(ILjava/lang/Object;)V" } : Jvm.MethodName)) ∈ lw_all := lw_g (lw_at lw_m12 152 rfl) rfl
theorem q2873 : (Jvm.Cond.methodLink "MasterTree$Following" (121 : Nat) ({ cls := "MasterTree$Master", name := "shownName", desc := "(I)I" } : Jvm.MethodName)) ∈ lw_all := lw_g (lw_at lw_m12 153 rfl) rfl
theorem q2874 : (Jvm.Cond.interfaceEntry "MasterTree$Following" (72 : Nat)) ∈ lw_tbl := lw_at lw_m12 154 rfl
theorem q2875 : (Jvm.Cond.methodLink "MasterTree$Following" (72 : Nat) ({ cls := "java/util/List", name := "get", desc := "(I)Ljava/lang/Object;" } : Jvm.MethodName)) ∈ lw_all := lw_g (lw_at lw_m12 155 rfl) rfl
theorem q2876 : (Jvm.Cond.classLink "MasterTree$Following" (34 : Nat) "MasterTree$Master") ∈ lw_all := lw_g (lw_at lw_m12 156 rfl) rfl
theorem q2877 : (Jvm.Cond.interfaceEntry "MasterTree$Following" (55 : Nat)) ∈ lw_tbl := lw_at lw_m12 157 rfl
theorem q2878 : (Jvm.Cond.methodLink "MasterTree$Following" (55 : Nat) ({ cls := "java/util/List", name := "isEmpty", desc := "()Z" } : Jvm.MethodName)) ∈ lw_all := lw_g (lw_at lw_m12 158 rfl) rfl
theorem q2879 : (Jvm.Cond.interfaceEntry "MasterTree$Following" (63 : Nat)) ∈ lw_tbl := lw_at lw_m12 159 rfl
theorem q2880 : (Jvm.Cond.methodLink "MasterTree$Following" (63 : Nat) ({ cls := "java/util/List", name := "remove", desc := "(I)Ljava/lang/Object;" } : Jvm.MethodName)) ∈ lw_all := lw_g (lw_at lw_m12 160 rfl) rfl
theorem q2881 : (Jvm.Cond.classLink "MasterTree$Following" (67 : Nat) "[I") ∈ lw_all := lw_g (lw_at lw_m12 161 rfl) rfl
theorem q2882 : (Jvm.Cond.fieldLink "MasterTree$Following" (19 : Nat) "MasterTree$Following" "filter" "LMasterTree$Filter;") ∈ lw_all := lw_g (lw_at lw_m12 162 rfl) rfl
theorem q2883 : (Jvm.Cond.fieldLink "MasterTree$Following" (39 : Nat) "MasterTree$Following" "user" "I") ∈ lw_all := lw_g (lw_at lw_m12 163 rfl) rfl
theorem q2884 : (Jvm.Cond.fieldLink "MasterTree$Following" (40 : Nat) "MasterTree$Following" "scope" "I") ∈ lw_all := lw_g (lw_at lw_m12 164 rfl) rfl
theorem q2885 : (Jvm.Cond.fieldLink "MasterTree$Following" (22 : Nat) "MasterTree$Following" "met" "[J") ∈ lw_all := lw_g (lw_at lw_m12 165 rfl) rfl
theorem q2886 : (Jvm.Cond.fieldLink "MasterTree$Following" (29 : Nat) "MasterTree$Following" "row" "Ljava/util/List;") ∈ lw_all := lw_g (lw_at lw_m12 166 rfl) rfl
theorem q2887 : (Jvm.Cond.fieldLink "MasterTree$Following" (3 : Nat) "MasterTree$Following" "this$0" "LMasterTree;") ∈ lw_all := lw_g (lw_at lw_m12 167 rfl) rfl
theorem q2888 : (Jvm.Cond.laysFinal "MasterTree$Following" "MasterTree$Following" "filter" "LMasterTree$Filter;") ∈ lw_all := lw_g (lw_at lw_m12 168 rfl) rfl
theorem q2889 : (Jvm.Cond.soleField "MasterTree$Following" "filter") ∈ lw_all := lw_g (lw_at lw_m12 169 rfl) rfl
theorem q2890 : (Jvm.Cond.laysFinal "MasterTree$Following" "MasterTree$Following" "user" "I") ∈ lw_all := lw_g (lw_at lw_m12 170 rfl) rfl
theorem q2891 : (Jvm.Cond.soleField "MasterTree$Following" "user") ∈ lw_all := lw_g (lw_at lw_m12 171 rfl) rfl
theorem q2892 : (Jvm.Cond.laysFinal "MasterTree$Following" "MasterTree$Following" "scope" "I") ∈ lw_all := lw_g (lw_at lw_m12 172 rfl) rfl
theorem q2893 : (Jvm.Cond.soleField "MasterTree$Following" "scope") ∈ lw_all := lw_g (lw_at lw_m12 173 rfl) rfl
theorem q2894 : (Jvm.Cond.laysFinal "MasterTree$Following" "MasterTree$Following" "met" "[J") ∈ lw_all := lw_g (lw_at lw_m12 174 rfl) rfl
theorem q2895 : (Jvm.Cond.soleField "MasterTree$Following" "met") ∈ lw_all := lw_g (lw_at lw_m12 175 rfl) rfl
theorem q2896 : (Jvm.Cond.laysFinal "MasterTree$Following" "MasterTree$Following" "row" "Ljava/util/List;") ∈ lw_all := lw_g (lw_at lw_m12 176 rfl) rfl
theorem q2897 : (Jvm.Cond.soleField "MasterTree$Following" "row") ∈ lw_all := lw_g (lw_at lw_m12 177 rfl) rfl
theorem q2898 : (Jvm.Cond.laysFinal "MasterTree$Following" "MasterTree$Following" "this$0" "LMasterTree;") ∈ lw_all := lw_g (lw_at lw_m12 178 rfl) rfl
theorem q2899 : (Jvm.Cond.soleField "MasterTree$Following" "this$0") ∈ lw_all := lw_g (lw_at lw_m12 179 rfl) rfl
theorem q2900 : (Jvm.Cond.superclass "MasterTree$Following" "java/lang/Object") ∈ lw_all := lw_g (lw_at lw_m12 180 rfl) rfl
theorem q2901 : (Jvm.Cond.methodLink "MasterTreeLaw" (236 : Nat) ({ cls := "MasterTreeLaw", name := "found", desc := "(LMasterTree;I[J)I" } : Jvm.MethodName)) ∈ lw_all := lw_g (lw_at lw_m12 181 rfl) rfl
theorem q2902 : (Jvm.Cond.static ({ cls := "MasterTreeLaw", name := "found", desc := "(LMasterTree;I[J)I" } : Jvm.MethodName)) ∈ lw_all := lw_g (lw_at lw_m12 182 rfl) rfl
theorem q2903 : (Jvm.Cond.codeWith ({ cls := "MasterTreeLaw", name := "found", desc := "(LMasterTree;I[J)I" } : Jvm.MethodName) method_27_code (4 : Nat) (Option.some Jvm.ClassFile.FieldType.int) [((0 : Nat), (9 : Nat), (12 : Nat), (19 : Nat))]) ∈ lw_all := lw_g (lw_at lw_m12 183 rfl) rfl
theorem q2904 : (Jvm.Cond.methodLink "MasterTreeLaw" (95 : Nat) ({ cls := "MasterTree", name := "found", desc := "(I)I" } : Jvm.MethodName)) ∈ lw_all := lw_g (lw_at lw_m12 184 rfl) rfl
theorem q2905 : (Jvm.Cond.instanceMethod ({ cls := "MasterTree", name := "found", desc := "(I)I" } : Jvm.MethodName)) ∈ lw_all := lw_g (lw_at lw_m12 185 rfl) rfl
theorem q2906 : (Jvm.Cond.selects "MasterTree" ({ cls := "MasterTree", name := "found", desc := "(I)I" } : Jvm.MethodName) ({ cls := "MasterTree", name := "found", desc := "(I)I" } : Jvm.MethodName)) ∈ lw_all := lw_g (lw_at lw_m12 186 rfl) rfl
theorem q2907 : (Jvm.Cond.code ({ cls := "MasterTree", name := "found", desc := "(I)I" } : Jvm.MethodName) prog_1_method_50_code (2 : Nat) (Option.some Jvm.ClassFile.FieldType.int)) ∈ lw_all := lw_g (lw_at lw_m12 187 rfl) rfl
theorem q2908 : (Jvm.Cond.stringRef "MasterTree" (467 : Nat) "entry that was found") ∈ lw_tbl := lw_at lw_m12 188 rfl
theorem q2909 : (Jvm.Cond.methodLink "MasterTreeLaw" (239 : Nat) ({ cls := "MasterTreeLaw", name := "live", desc := "(LMasterTree;I[J)I" } : Jvm.MethodName)) ∈ lw_all := lw_g (lw_at lw_m12 189 rfl) rfl
theorem q2910 : (Jvm.Cond.static ({ cls := "MasterTreeLaw", name := "live", desc := "(LMasterTree;I[J)I" } : Jvm.MethodName)) ∈ lw_all := lw_g (lw_at lw_m12 190 rfl) rfl
theorem q2911 : (Jvm.Cond.codeWith ({ cls := "MasterTreeLaw", name := "live", desc := "(LMasterTree;I[J)I" } : Jvm.MethodName) method_28_code (4 : Nat) (Option.some Jvm.ClassFile.FieldType.int) [((0 : Nat), (9 : Nat), (12 : Nat), (19 : Nat))]) ∈ lw_all := lw_g (lw_at lw_m12 191 rfl) rfl
theorem q2912 : (Jvm.Cond.methodLink "MasterTreeLaw" (98 : Nat) ({ cls := "MasterTree", name := "live", desc := "(I)I" } : Jvm.MethodName)) ∈ lw_all := lw_g (lw_at lw_m12 192 rfl) rfl
theorem q2913 : (Jvm.Cond.instanceMethod ({ cls := "MasterTree", name := "live", desc := "(I)I" } : Jvm.MethodName)) ∈ lw_all := lw_g (lw_at lw_m12 193 rfl) rfl
theorem q2914 : (Jvm.Cond.selects "MasterTree" ({ cls := "MasterTree", name := "live", desc := "(I)I" } : Jvm.MethodName) ({ cls := "MasterTree", name := "live", desc := "(I)I" } : Jvm.MethodName)) ∈ lw_all := lw_g (lw_at lw_m12 194 rfl) rfl
theorem q2915 : (Jvm.Cond.code ({ cls := "MasterTree", name := "live", desc := "(I)I" } : Jvm.MethodName) prog_1_method_51_code (2 : Nat) (Option.some Jvm.ClassFile.FieldType.int)) ∈ lw_all := lw_g (lw_at lw_m12 195 rfl) rfl
theorem q2916 : (Jvm.Cond.methodLink "MasterTree" (469 : Nat) ({ cls := "MasterTree$Master", name := "liveOnes", desc := "()J" } : Jvm.MethodName)) ∈ lw_all := lw_g (lw_at lw_m12 196 rfl) rfl
theorem q2917 : (Jvm.Cond.methodLink "MasterTreeLaw" (242 : Nat) ({ cls := "MasterTreeLaw", name := "parentOf", desc := "(LMasterTree;II[J)I" } : Jvm.MethodName)) ∈ lw_all := lw_g (lw_at lw_m12 197 rfl) rfl
theorem q2918 : (Jvm.Cond.static ({ cls := "MasterTreeLaw", name := "parentOf", desc := "(LMasterTree;II[J)I" } : Jvm.MethodName)) ∈ lw_all := lw_g (lw_at lw_m12 198 rfl) rfl
theorem q2919 : (Jvm.Cond.codeWith ({ cls := "MasterTreeLaw", name := "parentOf", desc := "(LMasterTree;II[J)I" } : Jvm.MethodName) method_29_code (5 : Nat) (Option.some Jvm.ClassFile.FieldType.int) [((0 : Nat), (10 : Nat), (13 : Nat), (19 : Nat))]) ∈ lw_all := lw_g (lw_at lw_m12 199 rfl) rfl
theorem q2920 : (Jvm.Cond.methodLink "MasterTreeLaw" (101 : Nat) ({ cls := "MasterTree", name := "parentOf", desc := "(II)I" } : Jvm.MethodName)) ∈ lw_all := lw_g (lw_at lw_m12 200 rfl) rfl
theorem q2921 : (Jvm.Cond.instanceMethod ({ cls := "MasterTree", name := "parentOf", desc := "(II)I" } : Jvm.MethodName)) ∈ lw_all := lw_g (lw_at lw_m12 201 rfl) rfl
theorem q2922 : (Jvm.Cond.selects "MasterTree" ({ cls := "MasterTree", name := "parentOf", desc := "(II)I" } : Jvm.MethodName) ({ cls := "MasterTree", name := "parentOf", desc := "(II)I" } : Jvm.MethodName)) ∈ lw_all := lw_g (lw_at lw_m12 202 rfl) rfl
theorem q2923 : (Jvm.Cond.code ({ cls := "MasterTree", name := "parentOf", desc := "(II)I" } : Jvm.MethodName) prog_1_method_52_code (4 : Nat) (Option.some Jvm.ClassFile.FieldType.int)) ∈ lw_all := lw_g (lw_at lw_m12 203 rfl) rfl
theorem q2924 : (Jvm.Cond.methodLink "MasterTreeLaw" (245 : Nat) ({ cls := "MasterTreeLaw", name := "parentAnew", desc := "(LMasterTree;II[J)I" } : Jvm.MethodName)) ∈ lw_all := lw_g (lw_at lw_m12 204 rfl) rfl
theorem q2925 : (Jvm.Cond.static ({ cls := "MasterTreeLaw", name := "parentAnew", desc := "(LMasterTree;II[J)I" } : Jvm.MethodName)) ∈ lw_all := lw_g (lw_at lw_m12 205 rfl) rfl
theorem q2926 : (Jvm.Cond.codeWith ({ cls := "MasterTreeLaw", name := "parentAnew", desc := "(LMasterTree;II[J)I" } : Jvm.MethodName) method_30_code (5 : Nat) (Option.some Jvm.ClassFile.FieldType.int) [((0 : Nat), (10 : Nat), (13 : Nat), (19 : Nat))]) ∈ lw_all := lw_g (lw_at lw_m12 206 rfl) rfl
theorem q2927 : (Jvm.Cond.methodLink "MasterTreeLaw" (104 : Nat) ({ cls := "MasterTree", name := "parentAnew", desc := "(II)I" } : Jvm.MethodName)) ∈ lw_all := lw_g (lw_at lw_m12 207 rfl) rfl
theorem q2928 : (Jvm.Cond.instanceMethod ({ cls := "MasterTree", name := "parentAnew", desc := "(II)I" } : Jvm.MethodName)) ∈ lw_all := lw_g (lw_at lw_m12 208 rfl) rfl
theorem q2929 : (Jvm.Cond.selects "MasterTree" ({ cls := "MasterTree", name := "parentAnew", desc := "(II)I" } : Jvm.MethodName) ({ cls := "MasterTree", name := "parentAnew", desc := "(II)I" } : Jvm.MethodName)) ∈ lw_all := lw_g (lw_at lw_m12 209 rfl) rfl
theorem q2930 : (Jvm.Cond.code ({ cls := "MasterTree", name := "parentAnew", desc := "(II)I" } : Jvm.MethodName) prog_1_method_54_code (4 : Nat) (Option.some Jvm.ClassFile.FieldType.int)) ∈ lw_all := lw_g (lw_at lw_m12 210 rfl) rfl
theorem q2931 : (Jvm.Cond.methodLink "MasterTree" (484 : Nat) ({ cls := "MasterTree", name := "anew", desc := "(LMasterTree$Master;)LMasterTree$Master;" } : Jvm.MethodName)) ∈ lw_all := lw_g (lw_at lw_m12 211 rfl) rfl
theorem q2932 : (Jvm.Cond.privateMethod ({ cls := "MasterTree", name := "anew", desc := "(LMasterTree$Master;)LMasterTree$Master;" } : Jvm.MethodName)) ∈ lw_tbl := lw_at lw_m12 212 rfl
theorem q2933 : (Jvm.Cond.instanceMethod ({ cls := "MasterTree", name := "anew", desc := "(LMasterTree$Master;)LMasterTree$Master;" } : Jvm.MethodName)) ∈ lw_all := lw_g (lw_at lw_m12 213 rfl) rfl
theorem q2934 : (Jvm.Cond.code ({ cls := "MasterTree", name := "anew", desc := "(LMasterTree$Master;)LMasterTree$Master;" } : Jvm.MethodName) prog_1_method_53_code (5 : Nat) (Option.some (Jvm.ClassFile.FieldType.object "MasterTree$Master"))) ∈ lw_all := lw_g (lw_at lw_m12 214 rfl) rfl
theorem q2935 : (Jvm.Cond.classLink "MasterTree" (263 : Nat) "MasterTree$Entry") ∈ lw_all := lw_g (lw_at lw_m12 215 rfl) rfl
theorem q2936 : (Jvm.Cond.methodLink "MasterTree" (473 : Nat) ({ cls := "MasterTree$Entry", name := "<init>", desc := "(ILjava/util/List;)V" } : Jvm.MethodName)) ∈ lw_all := lw_g (lw_at lw_m12 216 rfl) rfl
theorem q2937 : (Jvm.Cond.methodLink "MasterTree" (476 : Nat) ({ cls := "MasterTree$Kind", name := "does", desc := "(LMasterTree$Change;LMasterTree$Entry;)V" } : Jvm.MethodName)) ∈ lw_all := lw_g (lw_at lw_m12 217 rfl) rfl
theorem q2938 : (Jvm.Cond.methodLink "MasterTree" (480 : Nat) ({ cls := "MasterTree", name := "findsParents", desc := "(Ljava/util/List;[I)V" } : Jvm.MethodName)) ∈ lw_all := lw_g (lw_at lw_m12 218 rfl) rfl
theorem q2939 : (Jvm.Cond.methodLink "MasterTreeLaw" (248 : Nat) ({ cls := "MasterTreeLaw", name := "nameOf", desc := "(LMasterTree;II[J)I" } : Jvm.MethodName)) ∈ lw_all := lw_g (lw_at lw_m12 219 rfl) rfl
theorem q2940 : (Jvm.Cond.static ({ cls := "MasterTreeLaw", name := "nameOf", desc := "(LMasterTree;II[J)I" } : Jvm.MethodName)) ∈ lw_all := lw_g (lw_at lw_m12 220 rfl) rfl
theorem q2941 : (Jvm.Cond.codeWith ({ cls := "MasterTreeLaw", name := "nameOf", desc := "(LMasterTree;II[J)I" } : Jvm.MethodName) method_31_code (5 : Nat) (Option.some Jvm.ClassFile.FieldType.int) [((0 : Nat), (10 : Nat), (13 : Nat), (19 : Nat))]) ∈ lw_all := lw_g (lw_at lw_m12 221 rfl) rfl
theorem q2942 : (Jvm.Cond.methodLink "MasterTreeLaw" (107 : Nat) ({ cls := "MasterTree", name := "nameOf", desc := "(II)I" } : Jvm.MethodName)) ∈ lw_all := lw_g (lw_at lw_m12 222 rfl) rfl
theorem q2943 : (Jvm.Cond.instanceMethod ({ cls := "MasterTree", name := "nameOf", desc := "(II)I" } : Jvm.MethodName)) ∈ lw_all := lw_g (lw_at lw_m12 223 rfl) rfl
theorem q2944 : (Jvm.Cond.selects "MasterTree" ({ cls := "MasterTree", name := "nameOf", desc := "(II)I" } : Jvm.MethodName) ({ cls := "MasterTree", name := "nameOf", desc := "(II)I" } : Jvm.MethodName)) ∈ lw_all := lw_g (lw_at lw_m12 224 rfl) rfl
theorem q2945 : (Jvm.Cond.code ({ cls := "MasterTree", name := "nameOf", desc := "(II)I" } : Jvm.MethodName) prog_1_method_55_code (4 : Nat) (Option.some Jvm.ClassFile.FieldType.int)) ∈ lw_all := lw_g (lw_at lw_m12 225 rfl) rfl
theorem q2946 : (Jvm.Cond.methodLink "MasterTreeLaw" (251 : Nat) ({ cls := "MasterTreeLaw", name := "valueAt", desc := "(LMasterTree;IIII[J)I" } : Jvm.MethodName)) ∈ lw_all := lw_g (lw_at lw_m12 226 rfl) rfl
theorem q2947 : (Jvm.Cond.static ({ cls := "MasterTreeLaw", name := "valueAt", desc := "(LMasterTree;IIII[J)I" } : Jvm.MethodName)) ∈ lw_all := lw_g (lw_at lw_m12 227 rfl) rfl
theorem q2948 : (Jvm.Cond.codeWith ({ cls := "MasterTreeLaw", name := "valueAt", desc := "(LMasterTree;IIII[J)I" } : Jvm.MethodName) method_32_code (7 : Nat) (Option.some Jvm.ClassFile.FieldType.int) [((0 : Nat), (14 : Nat), (17 : Nat), (19 : Nat))]) ∈ lw_all := lw_g (lw_at lw_m12 228 rfl) rfl
theorem q2949 : (Jvm.Cond.methodLink "MasterTreeLaw" (110 : Nat) ({ cls := "MasterTree", name := "valueAt", desc := "(IIII)I" } : Jvm.MethodName)) ∈ lw_all := lw_g (lw_at lw_m12 229 rfl) rfl
theorem q2950 : (Jvm.Cond.instanceMethod ({ cls := "MasterTree", name := "valueAt", desc := "(IIII)I" } : Jvm.MethodName)) ∈ lw_all := lw_g (lw_at lw_m12 230 rfl) rfl
theorem q2951 : (Jvm.Cond.selects "MasterTree" ({ cls := "MasterTree", name := "valueAt", desc := "(IIII)I" } : Jvm.MethodName) ({ cls := "MasterTree", name := "valueAt", desc := "(IIII)I" } : Jvm.MethodName)) ∈ lw_all := lw_g (lw_at lw_m12 231 rfl) rfl
theorem q2952 : (Jvm.Cond.code ({ cls := "MasterTree", name := "valueAt", desc := "(IIII)I" } : Jvm.MethodName) prog_1_method_56_code (10 : Nat) (Option.some Jvm.ClassFile.FieldType.int)) ∈ lw_all := lw_g (lw_at lw_m12 232 rfl) rfl
theorem q2953 : (Jvm.Cond.methodLink "MasterTree" (488 : Nat) ({ cls := "MasterTree", name := "isIndex", desc := "(I)V" } : Jvm.MethodName)) ∈ lw_all := lw_g (lw_at lw_m12 233 rfl) rfl
theorem q2954 : (Jvm.Cond.static ({ cls := "MasterTree", name := "isIndex", desc := "(I)V" } : Jvm.MethodName)) ∈ lw_all := lw_g (lw_at lw_m12 234 rfl) rfl
theorem q2955 : (Jvm.Cond.code ({ cls := "MasterTree", name := "isIndex", desc := "(I)V" } : Jvm.MethodName) prog_1_method_12_code (1 : Nat) (Option.none : Option Jvm.ClassFile.FieldType)) ∈ lw_all := lw_g (lw_at lw_m12 235 rfl) rfl
theorem q2956 : (Jvm.Cond.stringRef "MasterTree" (156 : Nat) "the index ") ∈ lw_tbl := lw_at lw_m12 236 rfl
theorem q2957 : (Jvm.Cond.stringRef "MasterTree" (158 : Nat) " is below 0") ∈ lw_tbl := lw_at lw_m12 237 rfl
theorem q2958 : (Jvm.Cond.interfaceEntry "MasterTree" (492 : Nat)) ∈ lw_tbl := lw_at lw_m12 238 rfl
theorem q2959 : (Jvm.Cond.methodLink "MasterTree" (492 : Nat) ({ cls := "java/util/Map", name := "values", desc := "()Ljava/util/Collection;" } : Jvm.MethodName)) ∈ lw_all := lw_g (lw_at lw_m12 239 rfl) rfl
theorem q2960 : (Jvm.Cond.interfaceMethod "java/util/Map" "java/util/Map" "values" "()Ljava/util/Collection;") ∈ lw_tbl := lw_at lw_m13 0 rfl
theorem q2961 : (Jvm.Cond.declares ({ cls := "java/util/Map", name := "values", desc := "()Ljava/util/Collection;" } : Jvm.MethodName)) ∈ lw_tbl := lw_at lw_m13 1 rfl
theorem q2962 : (Jvm.Cond.selects "java/util/TreeMap" ({ cls := "java/util/Map", name := "values", desc := "()Ljava/util/Collection;" } : Jvm.MethodName) ({ cls := "java/util/TreeMap", name := "values", desc := "()Ljava/util/Collection;" } : Jvm.MethodName)) ∈ lw_all := lw_g (lw_at lw_m13 2 rfl) rfl
theorem q2963 : (Jvm.Cond.selects "java/util/TreeMap$AscendingSubMap" ({ cls := "java/util/Map", name := "values", desc := "()Ljava/util/Collection;" } : Jvm.MethodName) ({ cls := "java/util/AbstractMap", name := "values", desc := "()Ljava/util/Collection;" } : Jvm.MethodName)) ∈ lw_all := lw_g (lw_at lw_m13 3 rfl) rfl
theorem q2964 : (Jvm.Cond.interfaceEntry "MasterTree" (496 : Nat)) ∈ lw_tbl := lw_at lw_m13 4 rfl
theorem q2965 : (Jvm.Cond.methodLink "MasterTree" (496 : Nat) ({ cls := "java/util/Collection", name := "iterator", desc := "()Ljava/util/Iterator;" } : Jvm.MethodName)) ∈ lw_all := lw_g (lw_at lw_m13 5 rfl) rfl
theorem q2966 : (Jvm.Cond.methodLink "MasterTreeLaw" (254 : Nat) ({ cls := "MasterTreeLaw", name := "valuesAnew", desc := "(LMasterTree;III[J)I" } : Jvm.MethodName)) ∈ lw_all := lw_g (lw_at lw_m13 6 rfl) rfl
theorem q2967 : (Jvm.Cond.static ({ cls := "MasterTreeLaw", name := "valuesAnew", desc := "(LMasterTree;III[J)I" } : Jvm.MethodName)) ∈ lw_all := lw_g (lw_at lw_m13 7 rfl) rfl
theorem q2968 : (Jvm.Cond.codeWith ({ cls := "MasterTreeLaw", name := "valuesAnew", desc := "(LMasterTree;III[J)I" } : Jvm.MethodName) method_33_code (6 : Nat) (Option.some Jvm.ClassFile.FieldType.int) [((0 : Nat), (12 : Nat), (15 : Nat), (19 : Nat))]) ∈ lw_all := lw_g (lw_at lw_m13 8 rfl) rfl
theorem q2969 : (Jvm.Cond.methodLink "MasterTreeLaw" (113 : Nat) ({ cls := "MasterTree", name := "valuesAnew", desc := "(III)I" } : Jvm.MethodName)) ∈ lw_all := lw_g (lw_at lw_m13 9 rfl) rfl
theorem q2970 : (Jvm.Cond.instanceMethod ({ cls := "MasterTree", name := "valuesAnew", desc := "(III)I" } : Jvm.MethodName)) ∈ lw_all := lw_g (lw_at lw_m13 10 rfl) rfl
theorem q2971 : (Jvm.Cond.selects "MasterTree" ({ cls := "MasterTree", name := "valuesAnew", desc := "(III)I" } : Jvm.MethodName) ({ cls := "MasterTree", name := "valuesAnew", desc := "(III)I" } : Jvm.MethodName)) ∈ lw_all := lw_g (lw_at lw_m13 11 rfl) rfl
theorem q2972 : (Jvm.Cond.code ({ cls := "MasterTree", name := "valuesAnew", desc := "(III)I" } : Jvm.MethodName) prog_1_method_57_code (5 : Nat) (Option.some Jvm.ClassFile.FieldType.int)) ∈ lw_all := lw_g (lw_at lw_m13 12 rfl) rfl
theorem q2973 : (Jvm.Cond.methodLink "MasterTreeLaw" (257 : Nat) ({ cls := "MasterTreeLaw", name := "linkOf", desc := "(LMasterTree;II[J)I" } : Jvm.MethodName)) ∈ lw_all := lw_g (lw_at lw_m13 13 rfl) rfl
theorem q2974 : (Jvm.Cond.static ({ cls := "MasterTreeLaw", name := "linkOf", desc := "(LMasterTree;II[J)I" } : Jvm.MethodName)) ∈ lw_all := lw_g (lw_at lw_m13 14 rfl) rfl
theorem q2975 : (Jvm.Cond.codeWith ({ cls := "MasterTreeLaw", name := "linkOf", desc := "(LMasterTree;II[J)I" } : Jvm.MethodName) method_34_code (5 : Nat) (Option.some Jvm.ClassFile.FieldType.int) [((0 : Nat), (10 : Nat), (13 : Nat), (19 : Nat))]) ∈ lw_all := lw_g (lw_at lw_m13 15 rfl) rfl
theorem q2976 : (Jvm.Cond.methodLink "MasterTreeLaw" (116 : Nat) ({ cls := "MasterTree", name := "linkOf", desc := "(II)I" } : Jvm.MethodName)) ∈ lw_all := lw_g (lw_at lw_m13 16 rfl) rfl
theorem q2977 : (Jvm.Cond.instanceMethod ({ cls := "MasterTree", name := "linkOf", desc := "(II)I" } : Jvm.MethodName)) ∈ lw_all := lw_g (lw_at lw_m13 17 rfl) rfl
theorem q2978 : (Jvm.Cond.selects "MasterTree" ({ cls := "MasterTree", name := "linkOf", desc := "(II)I" } : Jvm.MethodName) ({ cls := "MasterTree", name := "linkOf", desc := "(II)I" } : Jvm.MethodName)) ∈ lw_all := lw_g (lw_at lw_m13 18 rfl) rfl
theorem q2979 : (Jvm.Cond.code ({ cls := "MasterTree", name := "linkOf", desc := "(II)I" } : Jvm.MethodName) prog_1_method_58_code (3 : Nat) (Option.some Jvm.ClassFile.FieldType.int)) ∈ lw_all := lw_g (lw_at lw_m13 19 rfl) rfl
theorem q2980 : (Jvm.Cond.methodLink "MasterTreeLaw" (260 : Nat) ({ cls := "MasterTreeLaw", name := "may", desc := "(LMasterTree;IIII[J)I" } : Jvm.MethodName)) ∈ lw_all := lw_g (lw_at lw_m13 20 rfl) rfl
theorem q2981 : (Jvm.Cond.static ({ cls := "MasterTreeLaw", name := "may", desc := "(LMasterTree;IIII[J)I" } : Jvm.MethodName)) ∈ lw_all := lw_g (lw_at lw_m13 21 rfl) rfl
theorem q2982 : (Jvm.Cond.codeWith ({ cls := "MasterTreeLaw", name := "may", desc := "(LMasterTree;IIII[J)I" } : Jvm.MethodName) method_35_code (7 : Nat) (Option.some Jvm.ClassFile.FieldType.int) [((0 : Nat), (21 : Nat), (24 : Nat), (19 : Nat))]) ∈ lw_all := lw_g (lw_at lw_m13 22 rfl) rfl
theorem q2983 : (Jvm.Cond.methodLink "MasterTreeLaw" (119 : Nat) ({ cls := "MasterTree", name := "may", desc := "(IIII)Z" } : Jvm.MethodName)) ∈ lw_all := lw_g (lw_at lw_m13 23 rfl) rfl
theorem q2984 : (Jvm.Cond.instanceMethod ({ cls := "MasterTree", name := "may", desc := "(IIII)Z" } : Jvm.MethodName)) ∈ lw_all := lw_g (lw_at lw_m13 24 rfl) rfl
theorem q2985 : (Jvm.Cond.selects "MasterTree" ({ cls := "MasterTree", name := "may", desc := "(IIII)Z" } : Jvm.MethodName) ({ cls := "MasterTree", name := "may", desc := "(IIII)Z" } : Jvm.MethodName)) ∈ lw_all := lw_g (lw_at lw_m13 25 rfl) rfl
theorem q2986 : (Jvm.Cond.code ({ cls := "MasterTree", name := "may", desc := "(IIII)Z" } : Jvm.MethodName) prog_1_method_59_code (6 : Nat) (Option.some Jvm.ClassFile.FieldType.boolean)) ∈ lw_all := lw_g (lw_at lw_m13 26 rfl) rfl
theorem q2987 : (Jvm.Cond.methodLink "MasterTreeLaw" (263 : Nat) ({ cls := "MasterTreeLaw", name := "childAt", desc := "(LMasterTree;III[J)I" } : Jvm.MethodName)) ∈ lw_all := lw_g (lw_at lw_m13 27 rfl) rfl
theorem q2988 : (Jvm.Cond.static ({ cls := "MasterTreeLaw", name := "childAt", desc := "(LMasterTree;III[J)I" } : Jvm.MethodName)) ∈ lw_all := lw_g (lw_at lw_m13 28 rfl) rfl
theorem q2989 : (Jvm.Cond.codeWith ({ cls := "MasterTreeLaw", name := "childAt", desc := "(LMasterTree;III[J)I" } : Jvm.MethodName) method_36_code (6 : Nat) (Option.some Jvm.ClassFile.FieldType.int) [((0 : Nat), (12 : Nat), (15 : Nat), (19 : Nat))]) ∈ lw_all := lw_g (lw_at lw_m13 29 rfl) rfl
theorem q2990 : (Jvm.Cond.methodLink "MasterTreeLaw" (123 : Nat) ({ cls := "MasterTree", name := "childAt", desc := "(III)I" } : Jvm.MethodName)) ∈ lw_all := lw_g (lw_at lw_m13 30 rfl) rfl
theorem q2991 : (Jvm.Cond.instanceMethod ({ cls := "MasterTree", name := "childAt", desc := "(III)I" } : Jvm.MethodName)) ∈ lw_all := lw_g (lw_at lw_m13 31 rfl) rfl
theorem q2992 : (Jvm.Cond.selects "MasterTree" ({ cls := "MasterTree", name := "childAt", desc := "(III)I" } : Jvm.MethodName) ({ cls := "MasterTree", name := "childAt", desc := "(III)I" } : Jvm.MethodName)) ∈ lw_all := lw_g (lw_at lw_m13 32 rfl) rfl
theorem q2993 : (Jvm.Cond.code ({ cls := "MasterTree", name := "childAt", desc := "(III)I" } : Jvm.MethodName) prog_1_method_60_code (7 : Nat) (Option.some Jvm.ClassFile.FieldType.int)) ∈ lw_all := lw_g (lw_at lw_m13 33 rfl) rfl
theorem q2994 : (Jvm.Cond.methodLink "MasterTreeLaw" (266 : Nat) ({ cls := "MasterTreeLaw", name := "conflicts", desc := "(LMasterTree;II[J)I" } : Jvm.MethodName)) ∈ lw_all := lw_g (lw_at lw_m13 34 rfl) rfl
theorem q2995 : (Jvm.Cond.static ({ cls := "MasterTreeLaw", name := "conflicts", desc := "(LMasterTree;II[J)I" } : Jvm.MethodName)) ∈ lw_all := lw_g (lw_at lw_m13 35 rfl) rfl
theorem q2996 : (Jvm.Cond.codeWith ({ cls := "MasterTreeLaw", name := "conflicts", desc := "(LMasterTree;II[J)I" } : Jvm.MethodName) method_37_code (5 : Nat) (Option.some Jvm.ClassFile.FieldType.int) [((0 : Nat), (10 : Nat), (13 : Nat), (19 : Nat))]) ∈ lw_all := lw_g (lw_at lw_m13 36 rfl) rfl
theorem q2997 : (Jvm.Cond.methodLink "MasterTreeLaw" (126 : Nat) ({ cls := "MasterTree", name := "conflicts", desc := "(II)I" } : Jvm.MethodName)) ∈ lw_all := lw_g (lw_at lw_m13 37 rfl) rfl
theorem q2998 : (Jvm.Cond.instanceMethod ({ cls := "MasterTree", name := "conflicts", desc := "(II)I" } : Jvm.MethodName)) ∈ lw_all := lw_g (lw_at lw_m13 38 rfl) rfl
theorem q2999 : (Jvm.Cond.selects "MasterTree" ({ cls := "MasterTree", name := "conflicts", desc := "(II)I" } : Jvm.MethodName) ({ cls := "MasterTree", name := "conflicts", desc := "(II)I" } : Jvm.MethodName)) ∈ lw_all := lw_g (lw_at lw_m13 39 rfl) rfl
theorem q3000 : (Jvm.Cond.code ({ cls := "MasterTree", name := "conflicts", desc := "(II)I" } : Jvm.MethodName) prog_1_method_61_code (7 : Nat) (Option.some Jvm.ClassFile.FieldType.int)) ∈ lw_all := lw_g (lw_at lw_m13 40 rfl) rfl
theorem q3001 : (Jvm.Cond.stringRef "MasterTree" (499 : Nat) "sort") ∈ lw_tbl := lw_at lw_m13 41 rfl
theorem q3002 : (Jvm.Cond.methodLink "MasterTree" (501 : Nat) ({ cls := "MasterTree$Master", name := "clashes", desc := "(I)Z" } : Jvm.MethodName)) ∈ lw_all := lw_g (lw_at lw_m13 42 rfl) rfl
theorem q3003 : (Jvm.Cond.methodLink "MasterTree" (504 : Nat) ({ cls := "MasterTree$Master", name := "isIncomplete", desc := "(I)Z" } : Jvm.MethodName)) ∈ lw_all := lw_g (lw_at lw_m13 43 rfl) rfl
theorem q3004 : (Jvm.Cond.instanceMethod ({ cls := "MasterTree$Master", name := "isIncomplete", desc := "(I)Z" } : Jvm.MethodName)) ∈ lw_all := lw_g (lw_at lw_m13 44 rfl) rfl
theorem q3005 : (Jvm.Cond.selects "MasterTree$Master" ({ cls := "MasterTree$Master", name := "isIncomplete", desc := "(I)Z" } : Jvm.MethodName) ({ cls := "MasterTree$Master", name := "isIncomplete", desc := "(I)Z" } : Jvm.MethodName)) ∈ lw_all := lw_g (lw_at lw_m13 45 rfl) rfl
theorem q3006 : (Jvm.Cond.code ({ cls := "MasterTree$Master", name := "isIncomplete", desc := "(I)Z" } : Jvm.MethodName) prog_21_method_12_code (5 : Nat) (Option.some Jvm.ClassFile.FieldType.boolean)) ∈ lw_all := lw_g (lw_at lw_m13 46 rfl) rfl
theorem q3007 : (Jvm.Cond.interfaceEntry "MasterTree$Master" (192 : Nat)) ∈ lw_tbl := lw_at lw_m13 47 rfl
theorem q3008 : (Jvm.Cond.methodLink "MasterTree$Master" (192 : Nat) ({ cls := "java/util/List", name := "size", desc := "()I" } : Jvm.MethodName)) ∈ lw_all := lw_g (lw_at lw_m13 48 rfl) rfl
theorem q3009 : (Jvm.Cond.interfaceEntry "MasterTree$Master" (197 : Nat)) ∈ lw_tbl := lw_at lw_m13 49 rfl
theorem q3010 : (Jvm.Cond.methodLink "MasterTree$Master" (197 : Nat) ({ cls := "java/util/List", name := "get", desc := "(I)Ljava/lang/Object;" } : Jvm.MethodName)) ∈ lw_all := lw_g (lw_at lw_m13 50 rfl) rfl
theorem q3011 : (Jvm.Cond.classLink "MasterTree$Master" (200 : Nat) "MasterTree$Klass") ∈ lw_all := lw_g (lw_at lw_m13 51 rfl) rfl
theorem q3012 : (Jvm.Cond.methodLink "MasterTree$Master" (205 : Nat) ({ cls := "MasterTree$Entry", name := "valuesOf", desc := "(I)Ljava/util/Map;" } : Jvm.MethodName)) ∈ lw_all := lw_g (lw_at lw_m13 52 rfl) rfl
theorem q3013 : (Jvm.Cond.interfaceEntry "MasterTree$Master" (209 : Nat)) ∈ lw_tbl := lw_at lw_m13 53 rfl
theorem q3014 : (Jvm.Cond.methodLink "MasterTree$Master" (209 : Nat) ({ cls := "java/util/Map", name := "isEmpty", desc := "()Z" } : Jvm.MethodName)) ∈ lw_all := lw_g (lw_at lw_m13 54 rfl) rfl
theorem q3015 : (Jvm.Cond.methodLink "MasterTreeLaw" (269 : Nat) ({ cls := "MasterTreeLaw", name := "knows", desc := "(LMasterTree;II[J)I" } : Jvm.MethodName)) ∈ lw_all := lw_g (lw_at lw_m13 55 rfl) rfl
theorem q3016 : (Jvm.Cond.static ({ cls := "MasterTreeLaw", name := "knows", desc := "(LMasterTree;II[J)I" } : Jvm.MethodName)) ∈ lw_all := lw_g (lw_at lw_m13 56 rfl) rfl
theorem q3017 : (Jvm.Cond.codeWith ({ cls := "MasterTreeLaw", name := "knows", desc := "(LMasterTree;II[J)I" } : Jvm.MethodName) method_38_code (5 : Nat) (Option.some Jvm.ClassFile.FieldType.int) [((0 : Nat), (10 : Nat), (13 : Nat), (19 : Nat))]) ∈ lw_all := lw_g (lw_at lw_m13 57 rfl) rfl
theorem q3018 : (Jvm.Cond.methodLink "MasterTreeLaw" (129 : Nat) ({ cls := "MasterTree", name := "knows", desc := "(II)I" } : Jvm.MethodName)) ∈ lw_all := lw_g (lw_at lw_m13 58 rfl) rfl
theorem q3019 : (Jvm.Cond.instanceMethod ({ cls := "MasterTree", name := "knows", desc := "(II)I" } : Jvm.MethodName)) ∈ lw_all := lw_g (lw_at lw_m13 59 rfl) rfl
theorem q3020 : (Jvm.Cond.selects "MasterTree" ({ cls := "MasterTree", name := "knows", desc := "(II)I" } : Jvm.MethodName) ({ cls := "MasterTree", name := "knows", desc := "(II)I" } : Jvm.MethodName)) ∈ lw_all := lw_g (lw_at lw_m13 60 rfl) rfl
theorem q3021 : (Jvm.Cond.code ({ cls := "MasterTree", name := "knows", desc := "(II)I" } : Jvm.MethodName) prog_1_method_62_code (4 : Nat) (Option.some Jvm.ClassFile.FieldType.int)) ∈ lw_all := lw_g (lw_at lw_m13 61 rfl) rfl
theorem q3022 : (Jvm.Cond.methodLink "MasterTreeLaw" (272 : Nat) ({ cls := "MasterTreeLaw", name := "marks", desc := "(LMasterTree;I[J)I" } : Jvm.MethodName)) ∈ lw_all := lw_g (lw_at lw_m13 62 rfl) rfl
theorem q3023 : (Jvm.Cond.static ({ cls := "MasterTreeLaw", name := "marks", desc := "(LMasterTree;I[J)I" } : Jvm.MethodName)) ∈ lw_all := lw_g (lw_at lw_m13 63 rfl) rfl
theorem q3024 : (Jvm.Cond.codeWith ({ cls := "MasterTreeLaw", name := "marks", desc := "(LMasterTree;I[J)I" } : Jvm.MethodName) method_39_code (4 : Nat) (Option.some Jvm.ClassFile.FieldType.int) [((0 : Nat), (9 : Nat), (12 : Nat), (19 : Nat))]) ∈ lw_all := lw_g (lw_at lw_m13 64 rfl) rfl
theorem q3025 : (Jvm.Cond.methodLink "MasterTreeLaw" (132 : Nat) ({ cls := "MasterTree", name := "marks", desc := "(I)I" } : Jvm.MethodName)) ∈ lw_all := lw_g (lw_at lw_m13 65 rfl) rfl
theorem q3026 : (Jvm.Cond.instanceMethod ({ cls := "MasterTree", name := "marks", desc := "(I)I" } : Jvm.MethodName)) ∈ lw_all := lw_g (lw_at lw_m13 66 rfl) rfl
theorem q3027 : (Jvm.Cond.selects "MasterTree" ({ cls := "MasterTree", name := "marks", desc := "(I)I" } : Jvm.MethodName) ({ cls := "MasterTree", name := "marks", desc := "(I)I" } : Jvm.MethodName)) ∈ lw_all := lw_g (lw_at lw_m13 67 rfl) rfl
theorem q3028 : (Jvm.Cond.code ({ cls := "MasterTree", name := "marks", desc := "(I)I" } : Jvm.MethodName) prog_1_method_63_code (2 : Nat) (Option.some Jvm.ClassFile.FieldType.int)) ∈ lw_all := lw_g (lw_at lw_m13 68 rfl) rfl
theorem q3029 : (Jvm.Cond.methodLink "MasterTreeLaw" (275 : Nat) ({ cls := "MasterTreeLaw", name := "areAlike", desc := "(LMasterTree;II[J)I" } : Jvm.MethodName)) ∈ lw_all := lw_g (lw_at lw_m13 69 rfl) rfl
theorem q3030 : (Jvm.Cond.static ({ cls := "MasterTreeLaw", name := "areAlike", desc := "(LMasterTree;II[J)I" } : Jvm.MethodName)) ∈ lw_all := lw_g (lw_at lw_m13 70 rfl) rfl
theorem q3031 : (Jvm.Cond.codeWith ({ cls := "MasterTreeLaw", name := "areAlike", desc := "(LMasterTree;II[J)I" } : Jvm.MethodName) method_40_code (5 : Nat) (Option.some Jvm.ClassFile.FieldType.int) [((0 : Nat), (17 : Nat), (20 : Nat), (19 : Nat))]) ∈ lw_all := lw_g (lw_at lw_m13 71 rfl) rfl
theorem q3032 : (Jvm.Cond.methodLink "MasterTreeLaw" (135 : Nat) ({ cls := "MasterTree", name := "areAlike", desc := "(II)Z" } : Jvm.MethodName)) ∈ lw_all := lw_g (lw_at lw_m13 72 rfl) rfl
theorem q3033 : (Jvm.Cond.instanceMethod ({ cls := "MasterTree", name := "areAlike", desc := "(II)Z" } : Jvm.MethodName)) ∈ lw_all := lw_g (lw_at lw_m13 73 rfl) rfl
theorem q3034 : (Jvm.Cond.selects "MasterTree" ({ cls := "MasterTree", name := "areAlike", desc := "(II)Z" } : Jvm.MethodName) ({ cls := "MasterTree", name := "areAlike", desc := "(II)Z" } : Jvm.MethodName)) ∈ lw_all := lw_g (lw_at lw_m13 74 rfl) rfl
theorem q3035 : (Jvm.Cond.code ({ cls := "MasterTree", name := "areAlike", desc := "(II)Z" } : Jvm.MethodName) prog_1_method_66_code (7 : Nat) (Option.some Jvm.ClassFile.FieldType.boolean)) ∈ lw_all := lw_g (lw_at lw_m13 75 rfl) rfl
theorem q3036 : (Jvm.Cond.methodLink "MasterTree" (529 : Nat) ({ cls := "MasterTree", name := "areAlikeIn", desc := "(LMasterTree$Master;LMasterTree$Master;I)Z" } : Jvm.MethodName)) ∈ lw_all := lw_g (lw_at lw_m13 76 rfl) rfl
theorem q3037 : (Jvm.Cond.static ({ cls := "MasterTree", name := "areAlikeIn", desc := "(LMasterTree$Master;LMasterTree$Master;I)Z" } : Jvm.MethodName)) ∈ lw_all := lw_g (lw_at lw_m13 77 rfl) rfl
theorem q3038 : (Jvm.Cond.code ({ cls := "MasterTree", name := "areAlikeIn", desc := "(LMasterTree$Master;LMasterTree$Master;I)Z" } : Jvm.MethodName) prog_1_method_65_code (6 : Nat) (Option.some Jvm.ClassFile.FieldType.boolean)) ∈ lw_all := lw_g (lw_at lw_m13 78 rfl) rfl
theorem q3039 : (Jvm.Cond.methodLink "MasterTree" (522 : Nat) ({ cls := "java/util/TreeMap", name := "equals", desc := "(Ljava/lang/Object;)Z" } : Jvm.MethodName)) ∈ lw_all := lw_g (lw_at lw_m13 79 rfl) rfl
theorem q3040 : (Jvm.Cond.sameMethod "java/util/TreeMap" "java/util/AbstractMap" "equals" "(Ljava/lang/Object;)Z") ∈ lw_all := lw_g (lw_at lw_m13 80 rfl) rfl
theorem q3041 : (Jvm.Cond.declares ({ cls := "java/util/AbstractMap", name := "equals", desc := "(Ljava/lang/Object;)Z" } : Jvm.MethodName)) ∈ lw_tbl := lw_at lw_m13 81 rfl
theorem q3042 : (Jvm.Cond.selects "java/util/TreeMap" ({ cls := "java/util/TreeMap", name := "equals", desc := "(Ljava/lang/Object;)Z" } : Jvm.MethodName) ({ cls := "java/util/AbstractMap", name := "equals", desc := "(Ljava/lang/Object;)Z" } : Jvm.MethodName)) ∈ lw_all := lw_g (lw_at lw_m13 82 rfl) rfl
theorem q3043 : (Jvm.Cond.instanceMethod ({ cls := "java/util/AbstractMap", name := "equals", desc := "(Ljava/lang/Object;)Z" } : Jvm.MethodName)) ∈ lw_all := lw_g (lw_at lw_m13 83 rfl) rfl
theorem q3044 : (Jvm.Cond.codeWith ({ cls := "java/util/AbstractMap", name := "equals", desc := "(Ljava/lang/Object;)Z" } : Jvm.MethodName) prog_55_method_14_code (7 : Nat) (Option.some Jvm.ClassFile.FieldType.boolean) [((39 : Nat), (115 : Nat), (140 : Nat), (86 : Nat)), ((39 : Nat), (115 : Nat), (140 : Nat), (88 : Nat)), ((116 : Nat), (133 : Nat), (140 : Nat), (86 : Nat)), ((116 : Nat), (133 : Nat), (140 : Nat), (88 : Nat)), ((134 : Nat), (137 : Nat), (140 : Nat), (86 : Nat)), ((134 : Nat), (137 : Nat), (140 : Nat), (88 : Nat))]) ∈ lw_all := lw_g (lw_at lw_m13 84 rfl) rfl
theorem q3045 : (Jvm.Cond.classLink "java/util/AbstractMap" (53 : Nat) "java/util/Map") ∈ lw_all := lw_g (lw_at lw_m13 85 rfl) rfl
theorem q3046 : (Jvm.Cond.interfaceEntry "java/util/AbstractMap" (78 : Nat)) ∈ lw_tbl := lw_at lw_m13 86 rfl
theorem q3047 : (Jvm.Cond.methodLink "java/util/AbstractMap" (78 : Nat) ({ cls := "java/util/Map", name := "size", desc := "()I" } : Jvm.MethodName)) ∈ lw_all := lw_g (lw_at lw_m13 87 rfl) rfl
theorem q3048 : (Jvm.Cond.interfaceEntry "java/util/AbstractMap" (20 : Nat)) ∈ lw_tbl := lw_at lw_m13 88 rfl
theorem q3049 : (Jvm.Cond.methodLink "java/util/AbstractMap" (20 : Nat) ({ cls := "java/util/Set", name := "iterator", desc := "()Ljava/util/Iterator;" } : Jvm.MethodName)) ∈ lw_all := lw_g (lw_at lw_m13 89 rfl) rfl
theorem q3050 : (Jvm.Cond.interfaceEntry "java/util/AbstractMap" (24 : Nat)) ∈ lw_tbl := lw_at lw_m13 90 rfl
theorem q3051 : (Jvm.Cond.methodLink "java/util/AbstractMap" (24 : Nat) ({ cls := "java/util/Iterator", name := "hasNext", desc := "()Z" } : Jvm.MethodName)) ∈ lw_all := lw_g (lw_at lw_m13 91 rfl) rfl
theorem q3052 : (Jvm.Cond.interfaceEntry "java/util/AbstractMap" (30 : Nat)) ∈ lw_tbl := lw_at lw_m13 92 rfl
theorem q3053 : (Jvm.Cond.methodLink "java/util/AbstractMap" (30 : Nat) ({ cls := "java/util/Iterator", name := "next", desc := "()Ljava/lang/Object;" } : Jvm.MethodName)) ∈ lw_all := lw_g (lw_at lw_m13 93 rfl) rfl
theorem q3054 : (Jvm.Cond.classLink "java/util/AbstractMap" (34 : Nat) "java/util/Map$Entry") ∈ lw_all := lw_g (lw_at lw_m13 94 rfl) rfl
theorem q3055 : (Jvm.Cond.interfaceEntry "java/util/AbstractMap" (43 : Nat)) ∈ lw_tbl := lw_at lw_m13 95 rfl
theorem q3056 : (Jvm.Cond.methodLink "java/util/AbstractMap" (43 : Nat) ({ cls := "java/util/Map$Entry", name := "getKey", desc := "()Ljava/lang/Object;" } : Jvm.MethodName)) ∈ lw_all := lw_g (lw_at lw_m13 96 rfl) rfl
theorem q3057 : (Jvm.Cond.interfaceEntry "java/util/AbstractMap" (36 : Nat)) ∈ lw_tbl := lw_at lw_m13 97 rfl
theorem q3058 : (Jvm.Cond.methodLink "java/util/AbstractMap" (36 : Nat) ({ cls := "java/util/Map$Entry", name := "getValue", desc := "()Ljava/lang/Object;" } : Jvm.MethodName)) ∈ lw_all := lw_g (lw_at lw_m13 98 rfl) rfl
theorem q3059 : (Jvm.Cond.interfaceEntry "java/util/AbstractMap" (79 : Nat)) ∈ lw_tbl := lw_at lw_m13 99 rfl
theorem q3060 : (Jvm.Cond.methodLink "java/util/AbstractMap" (79 : Nat) ({ cls := "java/util/Map", name := "get", desc := "(Ljava/lang/Object;)Ljava/lang/Object;" } : Jvm.MethodName)) ∈ lw_all := lw_g (lw_at lw_m13 100 rfl) rfl
theorem q3061 : (Jvm.Cond.interfaceMethod "java/util/Map" "java/util/Map" "get" "(Ljava/lang/Object;)Ljava/lang/Object;") ∈ lw_tbl := lw_at lw_m13 101 rfl
theorem q3062 : (Jvm.Cond.declares ({ cls := "java/util/Map", name := "get", desc := "(Ljava/lang/Object;)Ljava/lang/Object;" } : Jvm.MethodName)) ∈ lw_tbl := lw_at lw_m13 102 rfl
theorem q3063 : (Jvm.Cond.selects "java/util/TreeMap" ({ cls := "java/util/Map", name := "get", desc := "(Ljava/lang/Object;)Ljava/lang/Object;" } : Jvm.MethodName) ({ cls := "java/util/TreeMap", name := "get", desc := "(Ljava/lang/Object;)Ljava/lang/Object;" } : Jvm.MethodName)) ∈ lw_all := lw_g (lw_at lw_m13 103 rfl) rfl
theorem q3064 : (Jvm.Cond.unhidden "java/util/TreeMap" "get" "(Ljava/lang/Object;)Ljava/lang/Object;") ∈ lw_tbl := lw_at lw_m13 104 rfl
theorem q3065 : (Jvm.Cond.publicMethod ({ cls := "java/util/TreeMap", name := "get", desc := "(Ljava/lang/Object;)Ljava/lang/Object;" } : Jvm.MethodName)) ∈ lw_tbl := lw_at lw_m13 105 rfl
theorem q3066 : (Jvm.Cond.selects "java/util/TreeMap$AscendingSubMap" ({ cls := "java/util/Map", name := "get", desc := "(Ljava/lang/Object;)Ljava/lang/Object;" } : Jvm.MethodName) ({ cls := "java/util/TreeMap$NavigableSubMap", name := "get", desc := "(Ljava/lang/Object;)Ljava/lang/Object;" } : Jvm.MethodName)) ∈ lw_all := lw_g (lw_at lw_m13 106 rfl) rfl
theorem q3067 : (Jvm.Cond.unhidden "java/util/TreeMap$AscendingSubMap" "get" "(Ljava/lang/Object;)Ljava/lang/Object;") ∈ lw_tbl := lw_at lw_m13 107 rfl
theorem q3068 : (Jvm.Cond.instanceMethod ({ cls := "java/util/TreeMap$NavigableSubMap", name := "get", desc := "(Ljava/lang/Object;)Ljava/lang/Object;" } : Jvm.MethodName)) ∈ lw_all := lw_g (lw_at lw_m13 108 rfl) rfl
theorem q3069 : (Jvm.Cond.publicMethod ({ cls := "java/util/TreeMap$NavigableSubMap", name := "get", desc := "(Ljava/lang/Object;)Ljava/lang/Object;" } : Jvm.MethodName)) ∈ lw_tbl := lw_at lw_m13 109 rfl
theorem q3070 : (Jvm.Cond.code ({ cls := "java/util/TreeMap$NavigableSubMap", name := "get", desc := "(Ljava/lang/Object;)Ljava/lang/Object;" } : Jvm.MethodName) prog_87_method_33_code (2 : Nat) (Option.some (Jvm.ClassFile.FieldType.object "java/lang/Object"))) ∈ lw_all := lw_g (lw_at lw_m13 110 rfl) rfl
theorem q3071 : (Jvm.Cond.methodLink "java/util/TreeMap$NavigableSubMap" (53 : Nat) ({ cls := "java/util/TreeMap$NavigableSubMap", name := "inRange", desc := "(Ljava/lang/Object;)Z" } : Jvm.MethodName)) ∈ lw_all := lw_g (lw_at lw_m13 111 rfl) rfl
theorem q3072 : (Jvm.Cond.instanceMethod ({ cls := "java/util/TreeMap$NavigableSubMap", name := "inRange", desc := "(Ljava/lang/Object;)Z" } : Jvm.MethodName)) ∈ lw_all := lw_g (lw_at lw_m13 112 rfl) rfl
theorem q3073 : (Jvm.Cond.sameMethod "java/util/TreeMap$NavigableSubMap" "java/util/TreeMap$NavigableSubMap" "inRange" "(Ljava/lang/Object;)Z") ∈ lw_all := lw_g (lw_at lw_m13 113 rfl) rfl
theorem q3074 : (Jvm.Cond.selects "java/util/TreeMap$AscendingSubMap" ({ cls := "java/util/TreeMap$NavigableSubMap", name := "inRange", desc := "(Ljava/lang/Object;)Z" } : Jvm.MethodName) ({ cls := "java/util/TreeMap$NavigableSubMap", name := "inRange", desc := "(Ljava/lang/Object;)Z" } : Jvm.MethodName)) ∈ lw_all := lw_g (lw_at lw_m13 114 rfl) rfl
theorem q3075 : (Jvm.Cond.code ({ cls := "java/util/TreeMap$NavigableSubMap", name := "inRange", desc := "(Ljava/lang/Object;)Z" } : Jvm.MethodName) prog_87_method_4_code (2 : Nat) (Option.some Jvm.ClassFile.FieldType.boolean)) ∈ lw_all := lw_g (lw_at lw_m13 115 rfl) rfl
theorem q3076 : (Jvm.Cond.methodLink "java/util/TreeMap$NavigableSubMap" (46 : Nat) ({ cls := "java/util/TreeMap$NavigableSubMap", name := "tooLow", desc := "(Ljava/lang/Object;)Z" } : Jvm.MethodName)) ∈ lw_all := lw_g (lw_at lw_m13 116 rfl) rfl
theorem q3077 : (Jvm.Cond.instanceMethod ({ cls := "java/util/TreeMap$NavigableSubMap", name := "tooLow", desc := "(Ljava/lang/Object;)Z" } : Jvm.MethodName)) ∈ lw_all := lw_g (lw_at lw_m13 117 rfl) rfl
theorem q3078 : (Jvm.Cond.sameMethod "java/util/TreeMap$NavigableSubMap" "java/util/TreeMap$NavigableSubMap" "tooLow" "(Ljava/lang/Object;)Z") ∈ lw_all := lw_g (lw_at lw_m13 118 rfl) rfl
theorem q3079 : (Jvm.Cond.selects "java/util/TreeMap$AscendingSubMap" ({ cls := "java/util/TreeMap$NavigableSubMap", name := "tooLow", desc := "(Ljava/lang/Object;)Z" } : Jvm.MethodName) ({ cls := "java/util/TreeMap$NavigableSubMap", name := "tooLow", desc := "(Ljava/lang/Object;)Z" } : Jvm.MethodName)) ∈ lw_all := lw_g (lw_at lw_m13 119 rfl) rfl
theorem q3080 : (Jvm.Cond.code ({ cls := "java/util/TreeMap$NavigableSubMap", name := "tooLow", desc := "(Ljava/lang/Object;)Z" } : Jvm.MethodName) prog_87_method_2_code (3 : Nat) (Option.some Jvm.ClassFile.FieldType.boolean)) ∈ lw_all := lw_g (lw_at lw_m13 120 rfl) rfl
theorem q3081 : (Jvm.Cond.methodLink "java/util/TreeMap$NavigableSubMap" (143 : Nat) ({ cls := "java/util/TreeMap", name := "get", desc := "(Ljava/lang/Object;)Ljava/lang/Object;" } : Jvm.MethodName)) ∈ lw_all := lw_g (lw_at lw_m13 121 rfl) rfl
theorem q3082 : (Jvm.Cond.interfaceEntry "java/util/AbstractMap" (83 : Nat)) ∈ lw_tbl := lw_at lw_m13 122 rfl
theorem q3083 : (Jvm.Cond.methodLink "java/util/AbstractMap" (83 : Nat) ({ cls := "java/util/Map", name := "containsKey", desc := "(Ljava/lang/Object;)Z" } : Jvm.MethodName)) ∈ lw_all := lw_g (lw_at lw_m13 123 rfl) rfl
theorem q3084 : (Jvm.Cond.interfaceMethod "java/util/Map" "java/util/Map" "containsKey" "(Ljava/lang/Object;)Z") ∈ lw_tbl := lw_at lw_m13 124 rfl
theorem q3085 : (Jvm.Cond.declares ({ cls := "java/util/Map", name := "containsKey", desc := "(Ljava/lang/Object;)Z" } : Jvm.MethodName)) ∈ lw_tbl := lw_at lw_m13 125 rfl
theorem q3086 : (Jvm.Cond.selects "java/util/TreeMap" ({ cls := "java/util/Map", name := "containsKey", desc := "(Ljava/lang/Object;)Z" } : Jvm.MethodName) ({ cls := "java/util/TreeMap", name := "containsKey", desc := "(Ljava/lang/Object;)Z" } : Jvm.MethodName)) ∈ lw_all := lw_g (lw_at lw_m13 126 rfl) rfl
theorem q3087 : (Jvm.Cond.unhidden "java/util/TreeMap" "containsKey" "(Ljava/lang/Object;)Z") ∈ lw_tbl := lw_at lw_m13 127 rfl
theorem q3088 : (Jvm.Cond.publicMethod ({ cls := "java/util/TreeMap", name := "containsKey", desc := "(Ljava/lang/Object;)Z" } : Jvm.MethodName)) ∈ lw_tbl := lw_at lw_m13 128 rfl
theorem q3089 : (Jvm.Cond.selects "java/util/TreeMap$AscendingSubMap" ({ cls := "java/util/Map", name := "containsKey", desc := "(Ljava/lang/Object;)Z" } : Jvm.MethodName) ({ cls := "java/util/TreeMap$NavigableSubMap", name := "containsKey", desc := "(Ljava/lang/Object;)Z" } : Jvm.MethodName)) ∈ lw_all := lw_g (lw_at lw_m13 129 rfl) rfl
theorem q3090 : (Jvm.Cond.unhidden "java/util/TreeMap$AscendingSubMap" "containsKey" "(Ljava/lang/Object;)Z") ∈ lw_tbl := lw_at lw_m13 130 rfl
theorem q3091 : (Jvm.Cond.instanceMethod ({ cls := "java/util/TreeMap$NavigableSubMap", name := "containsKey", desc := "(Ljava/lang/Object;)Z" } : Jvm.MethodName)) ∈ lw_all := lw_g (lw_at lw_m13 131 rfl) rfl
theorem q3092 : (Jvm.Cond.publicMethod ({ cls := "java/util/TreeMap$NavigableSubMap", name := "containsKey", desc := "(Ljava/lang/Object;)Z" } : Jvm.MethodName)) ∈ lw_tbl := lw_at lw_m13 132 rfl
theorem q3093 : (Jvm.Cond.code ({ cls := "java/util/TreeMap$NavigableSubMap", name := "containsKey", desc := "(Ljava/lang/Object;)Z" } : Jvm.MethodName) prog_87_method_26_code (2 : Nat) (Option.some Jvm.ClassFile.FieldType.boolean)) ∈ lw_all := lw_g (lw_at lw_m13 133 rfl) rfl
theorem q3094 : (Jvm.Cond.methodLink "java/util/TreeMap$NavigableSubMap" (106 : Nat) ({ cls := "java/util/TreeMap", name := "containsKey", desc := "(Ljava/lang/Object;)Z" } : Jvm.MethodName)) ∈ lw_all := lw_g (lw_at lw_m13 134 rfl) rfl
theorem q3095 : (Jvm.Cond.declares ({ cls := "java/lang/Object", name := "equals", desc := "(Ljava/lang/Object;)Z" } : Jvm.MethodName)) ∈ lw_tbl := lw_at lw_m13 135 rfl
theorem q3096 : (Jvm.Cond.methodLink "java/util/AbstractMap" (39 : Nat) ({ cls := "java/lang/Object", name := "equals", desc := "(Ljava/lang/Object;)Z" } : Jvm.MethodName)) ∈ lw_all := lw_g (lw_at lw_m13 136 rfl) rfl
theorem q3097 : (Jvm.Cond.instanceMethod ({ cls := "java/lang/Object", name := "equals", desc := "(Ljava/lang/Object;)Z" } : Jvm.MethodName)) ∈ lw_all := lw_g (lw_at lw_m13 137 rfl) rfl
theorem q3098 : (Jvm.Cond.sameMethod "java/lang/Object" "java/lang/Object" "equals" "(Ljava/lang/Object;)Z") ∈ lw_all := lw_g (lw_at lw_m13 138 rfl) rfl
theorem q3099 : (Jvm.Cond.selects "MasterTree" ({ cls := "java/lang/Object", name := "equals", desc := "(Ljava/lang/Object;)Z" } : Jvm.MethodName) ({ cls := "java/lang/Object", name := "equals", desc := "(Ljava/lang/Object;)Z" } : Jvm.MethodName)) ∈ lw_all := lw_g (lw_at lw_m13 139 rfl) rfl
theorem q3100 : (Jvm.Cond.selects "MasterTree$Attribute" ({ cls := "java/lang/Object", name := "equals", desc := "(Ljava/lang/Object;)Z" } : Jvm.MethodName) ({ cls := "java/lang/Object", name := "equals", desc := "(Ljava/lang/Object;)Z" } : Jvm.MethodName)) ∈ lw_all := lw_g (lw_at lw_m13 140 rfl) rfl
theorem q3101 : (Jvm.Cond.selects "MasterTree$ByClass" ({ cls := "java/lang/Object", name := "equals", desc := "(Ljava/lang/Object;)Z" } : Jvm.MethodName) ({ cls := "java/lang/Object", name := "equals", desc := "(Ljava/lang/Object;)Z" } : Jvm.MethodName)) ∈ lw_all := lw_g (lw_at lw_m13 141 rfl) rfl
theorem q3102 : (Jvm.Cond.selects "MasterTree$ByValue" ({ cls := "java/lang/Object", name := "equals", desc := "(Ljava/lang/Object;)Z" } : Jvm.MethodName) ({ cls := "java/lang/Object", name := "equals", desc := "(Ljava/lang/Object;)Z" } : Jvm.MethodName)) ∈ lw_all := lw_g (lw_at lw_m13 142 rfl) rfl
theorem q3103 : (Jvm.Cond.selects "MasterTree$Change" ({ cls := "java/lang/Object", name := "equals", desc := "(Ljava/lang/Object;)Z" } : Jvm.MethodName) ({ cls := "java/lang/Object", name := "equals", desc := "(Ljava/lang/Object;)Z" } : Jvm.MethodName)) ∈ lw_all := lw_g (lw_at lw_m13 143 rfl) rfl
theorem q3104 : (Jvm.Cond.selects "MasterTree$Combined" ({ cls := "java/lang/Object", name := "equals", desc := "(Ljava/lang/Object;)Z" } : Jvm.MethodName) ({ cls := "java/lang/Object", name := "equals", desc := "(Ljava/lang/Object;)Z" } : Jvm.MethodName)) ∈ lw_all := lw_g (lw_at lw_m13 144 rfl) rfl
theorem q3105 : (Jvm.Cond.selects "MasterTree$Entry" ({ cls := "java/lang/Object", name := "equals", desc := "(Ljava/lang/Object;)Z" } : Jvm.MethodName) ({ cls := "java/lang/Object", name := "equals", desc := "(Ljava/lang/Object;)Z" } : Jvm.MethodName)) ∈ lw_all := lw_g (lw_at lw_m13 145 rfl) rfl
theorem q3106 : (Jvm.Cond.selects "MasterTree$Following" ({ cls := "java/lang/Object", name := "equals", desc := "(Ljava/lang/Object;)Z" } : Jvm.MethodName) ({ cls := "java/lang/Object", name := "equals", desc := "(Ljava/lang/Object;)Z" } : Jvm.MethodName)) ∈ lw_all := lw_g (lw_at lw_m13 146 rfl) rfl
theorem q3107 : (Jvm.Cond.selects "MasterTree$Kind$1" ({ cls := "java/lang/Object", name := "equals", desc := "(Ljava/lang/Object;)Z" } : Jvm.MethodName) ({ cls := "java/lang/Enum", name := "equals", desc := "(Ljava/lang/Object;)Z" } : Jvm.MethodName)) ∈ lw_all := lw_g (lw_at lw_m13 147 rfl) rfl
theorem q3108 : (Jvm.Cond.instanceMethod ({ cls := "java/lang/Enum", name := "equals", desc := "(Ljava/lang/Object;)Z" } : Jvm.MethodName)) ∈ lw_all := lw_g (lw_at lw_m13 148 rfl) rfl
theorem q3109 : (Jvm.Cond.code ({ cls := "java/lang/Enum", name := "equals", desc := "(Ljava/lang/Object;)Z" } : Jvm.MethodName) prog_32_method_5_code (2 : Nat) (Option.some Jvm.ClassFile.FieldType.boolean)) ∈ lw_all := lw_g (lw_at lw_m13 149 rfl) rfl
theorem q3110 : (Jvm.Cond.selects "MasterTree$Kind$2" ({ cls := "java/lang/Object", name := "equals", desc := "(Ljava/lang/Object;)Z" } : Jvm.MethodName) ({ cls := "java/lang/Enum", name := "equals", desc := "(Ljava/lang/Object;)Z" } : Jvm.MethodName)) ∈ lw_all := lw_g (lw_at lw_m13 150 rfl) rfl
theorem q3111 : (Jvm.Cond.selects "MasterTree$Kind$3" ({ cls := "java/lang/Object", name := "equals", desc := "(Ljava/lang/Object;)Z" } : Jvm.MethodName) ({ cls := "java/lang/Enum", name := "equals", desc := "(Ljava/lang/Object;)Z" } : Jvm.MethodName)) ∈ lw_all := lw_g (lw_at lw_m13 151 rfl) rfl
theorem q3112 : (Jvm.Cond.selects "MasterTree$Kind$4" ({ cls := "java/lang/Object", name := "equals", desc := "(Ljava/lang/Object;)Z" } : Jvm.MethodName) ({ cls := "java/lang/Enum", name := "equals", desc := "(Ljava/lang/Object;)Z" } : Jvm.MethodName)) ∈ lw_all := lw_g (lw_at lw_m13 152 rfl) rfl
theorem q3113 : (Jvm.Cond.selects "MasterTree$Kind$5" ({ cls := "java/lang/Object", name := "equals", desc := "(Ljava/lang/Object;)Z" } : Jvm.MethodName) ({ cls := "java/lang/Enum", name := "equals", desc := "(Ljava/lang/Object;)Z" } : Jvm.MethodName)) ∈ lw_all := lw_g (lw_at lw_m13 153 rfl) rfl
theorem q3114 : (Jvm.Cond.selects "MasterTree$Kind$6" ({ cls := "java/lang/Object", name := "equals", desc := "(Ljava/lang/Object;)Z" } : Jvm.MethodName) ({ cls := "java/lang/Enum", name := "equals", desc := "(Ljava/lang/Object;)Z" } : Jvm.MethodName)) ∈ lw_all := lw_g (lw_at lw_m13 154 rfl) rfl
theorem q3115 : (Jvm.Cond.selects "MasterTree$Kind$7" ({ cls := "java/lang/Object", name := "equals", desc := "(Ljava/lang/Object;)Z" } : Jvm.MethodName) ({ cls := "java/lang/Enum", name := "equals", desc := "(Ljava/lang/Object;)Z" } : Jvm.MethodName)) ∈ lw_all := lw_g (lw_at lw_m13 155 rfl) rfl
theorem q3116 : (Jvm.Cond.selects "MasterTree$Kind$8" ({ cls := "java/lang/Object", name := "equals", desc := "(Ljava/lang/Object;)Z" } : Jvm.MethodName) ({ cls := "java/lang/Enum", name := "equals", desc := "(Ljava/lang/Object;)Z" } : Jvm.MethodName)) ∈ lw_all := lw_g (lw_at lw_m13 156 rfl) rfl
theorem q3117 : (Jvm.Cond.selects "MasterTree$Kind$9" ({ cls := "java/lang/Object", name := "equals", desc := "(Ljava/lang/Object;)Z" } : Jvm.MethodName) ({ cls := "java/lang/Enum", name := "equals", desc := "(Ljava/lang/Object;)Z" } : Jvm.MethodName)) ∈ lw_all := lw_g (lw_at lw_m13 157 rfl) rfl
theorem q3118 : (Jvm.Cond.selects "MasterTree$Klass" ({ cls := "java/lang/Object", name := "equals", desc := "(Ljava/lang/Object;)Z" } : Jvm.MethodName) ({ cls := "java/lang/Object", name := "equals", desc := "(Ljava/lang/Object;)Z" } : Jvm.MethodName)) ∈ lw_all := lw_g (lw_at lw_m13 158 rfl) rfl
theorem q3119 : (Jvm.Cond.selects "MasterTree$Master" ({ cls := "java/lang/Object", name := "equals", desc := "(Ljava/lang/Object;)Z" } : Jvm.MethodName) ({ cls := "java/lang/Object", name := "equals", desc := "(Ljava/lang/Object;)Z" } : Jvm.MethodName)) ∈ lw_all := lw_g (lw_at lw_m13 159 rfl) rfl
theorem q3120 : (Jvm.Cond.selects "MasterTree$Not" ({ cls := "java/lang/Object", name := "equals", desc := "(Ljava/lang/Object;)Z" } : Jvm.MethodName) ({ cls := "java/lang/Object", name := "equals", desc := "(Ljava/lang/Object;)Z" } : Jvm.MethodName)) ∈ lw_all := lw_g (lw_at lw_m13 160 rfl) rfl
theorem q3121 : (Jvm.Cond.selects "MasterTreeModel" ({ cls := "java/lang/Object", name := "equals", desc := "(Ljava/lang/Object;)Z" } : Jvm.MethodName) ({ cls := "java/lang/Object", name := "equals", desc := "(Ljava/lang/Object;)Z" } : Jvm.MethodName)) ∈ lw_all := lw_g (lw_at lw_m13 161 rfl) rfl
theorem q3122 : (Jvm.Cond.selects "java/lang/ArrayIndexOutOfBoundsException" ({ cls := "java/lang/Object", name := "equals", desc := "(Ljava/lang/Object;)Z" } : Jvm.MethodName) ({ cls := "java/lang/Object", name := "equals", desc := "(Ljava/lang/Object;)Z" } : Jvm.MethodName)) ∈ lw_all := lw_g (lw_at lw_m13 162 rfl) rfl
theorem q3123 : (Jvm.Cond.selects "java/lang/IllegalArgumentException" ({ cls := "java/lang/Object", name := "equals", desc := "(Ljava/lang/Object;)Z" } : Jvm.MethodName) ({ cls := "java/lang/Object", name := "equals", desc := "(Ljava/lang/Object;)Z" } : Jvm.MethodName)) ∈ lw_all := lw_g (lw_at lw_m13 163 rfl) rfl
theorem q3124 : (Jvm.Cond.selects "java/lang/IllegalStateException" ({ cls := "java/lang/Object", name := "equals", desc := "(Ljava/lang/Object;)Z" } : Jvm.MethodName) ({ cls := "java/lang/Object", name := "equals", desc := "(Ljava/lang/Object;)Z" } : Jvm.MethodName)) ∈ lw_all := lw_g (lw_at lw_m13 164 rfl) rfl
theorem q3125 : (Jvm.Cond.selects "java/lang/IndexOutOfBoundsException" ({ cls := "java/lang/Object", name := "equals", desc := "(Ljava/lang/Object;)Z" } : Jvm.MethodName) ({ cls := "java/lang/Object", name := "equals", desc := "(Ljava/lang/Object;)Z" } : Jvm.MethodName)) ∈ lw_all := lw_g (lw_at lw_m13 165 rfl) rfl
theorem q3126 : (Jvm.Cond.selects "java/lang/Integer" ({ cls := "java/lang/Object", name := "equals", desc := "(Ljava/lang/Object;)Z" } : Jvm.MethodName) ({ cls := "java/lang/Integer", name := "equals", desc := "(Ljava/lang/Object;)Z" } : Jvm.MethodName)) ∈ lw_all := lw_g (lw_at lw_m13 166 rfl) rfl
theorem q3127 : (Jvm.Cond.instanceMethod ({ cls := "java/lang/Integer", name := "equals", desc := "(Ljava/lang/Object;)Z" } : Jvm.MethodName)) ∈ lw_all := lw_g (lw_at lw_m13 167 rfl) rfl
theorem q3128 : (Jvm.Cond.code ({ cls := "java/lang/Integer", name := "equals", desc := "(Ljava/lang/Object;)Z" } : Jvm.MethodName) prog_37_method_34_code (2 : Nat) (Option.some Jvm.ClassFile.FieldType.boolean)) ∈ lw_all := lw_g (lw_at lw_m13 168 rfl) rfl
theorem q3129 : (Jvm.Cond.methodLink "java/lang/Integer" (211 : Nat) ({ cls := "java/lang/Integer", name := "intValue", desc := "()I" } : Jvm.MethodName)) ∈ lw_all := lw_g (lw_at lw_m13 169 rfl) rfl
theorem q3130 : (Jvm.Cond.selects "java/lang/Long" ({ cls := "java/lang/Object", name := "equals", desc := "(Ljava/lang/Object;)Z" } : Jvm.MethodName) ({ cls := "java/lang/Long", name := "equals", desc := "(Ljava/lang/Object;)Z" } : Jvm.MethodName)) ∈ lw_all := lw_g (lw_at lw_m13 170 rfl) rfl
theorem q3131 : (Jvm.Cond.instanceMethod ({ cls := "java/lang/Long", name := "equals", desc := "(Ljava/lang/Object;)Z" } : Jvm.MethodName)) ∈ lw_all := lw_g (lw_at lw_m13 171 rfl) rfl
theorem q3132 : (Jvm.Cond.code ({ cls := "java/lang/Long", name := "equals", desc := "(Ljava/lang/Object;)Z" } : Jvm.MethodName) prog_40_method_37_code (2 : Nat) (Option.some Jvm.ClassFile.FieldType.boolean)) ∈ lw_all := lw_g (lw_at lw_m13 172 rfl) rfl
theorem q3133 : (Jvm.Cond.methodLink "java/lang/Long" (280 : Nat) ({ cls := "java/lang/Long", name := "longValue", desc := "()J" } : Jvm.MethodName)) ∈ lw_all := lw_g (lw_at lw_m13 173 rfl) rfl
theorem q3134 : (Jvm.Cond.selects "java/lang/String" ({ cls := "java/lang/Object", name := "equals", desc := "(Ljava/lang/Object;)Z" } : Jvm.MethodName) ({ cls := "java/lang/String", name := "equals", desc := "(Ljava/lang/Object;)Z" } : Jvm.MethodName)) ∈ lw_all := lw_g (lw_at lw_m13 174 rfl) rfl
theorem q3135 : (Jvm.Cond.instanceMethod ({ cls := "java/lang/String", name := "equals", desc := "(Ljava/lang/Object;)Z" } : Jvm.MethodName)) ∈ lw_all := lw_g (lw_at lw_m13 175 rfl) rfl
theorem q3136 : (Jvm.Cond.code ({ cls := "java/lang/String", name := "equals", desc := "(Ljava/lang/Object;)Z" } : Jvm.MethodName) prog_45_method_66_code (3 : Nat) (Option.some Jvm.ClassFile.FieldType.boolean)) ∈ lw_all := lw_g (lw_at lw_m13 176 rfl) rfl
theorem q3137 : (Jvm.Cond.methodLink "java/lang/String" (541 : Nat) ({ cls := "java/lang/StringLatin1", name := "equals", desc := "([B[B)Z" } : Jvm.MethodName)) ∈ lw_all := lw_g (lw_at lw_m13 177 rfl) rfl
theorem q3138 : (Jvm.Cond.static ({ cls := "java/lang/StringLatin1", name := "equals", desc := "([B[B)Z" } : Jvm.MethodName)) ∈ lw_all := lw_g (lw_at lw_m13 178 rfl) rfl
theorem q3139 : (Jvm.Cond.code ({ cls := "java/lang/StringLatin1", name := "equals", desc := "([B[B)Z" } : Jvm.MethodName) prog_47_method_13_code (3 : Nat) (Option.some Jvm.ClassFile.FieldType.boolean)) ∈ lw_all := lw_g (lw_at lw_m13 179 rfl) rfl
theorem q3140 : (Jvm.Cond.selects "java/lang/StringBuilder" ({ cls := "java/lang/Object", name := "equals", desc := "(Ljava/lang/Object;)Z" } : Jvm.MethodName) ({ cls := "java/lang/Object", name := "equals", desc := "(Ljava/lang/Object;)Z" } : Jvm.MethodName)) ∈ lw_all := lw_g (lw_at lw_m13 180 rfl) rfl
theorem q3141 : (Jvm.Cond.selects "jdk/internal/misc/Unsafe" ({ cls := "java/lang/Object", name := "equals", desc := "(Ljava/lang/Object;)Z" } : Jvm.MethodName) ({ cls := "java/lang/Object", name := "equals", desc := "(Ljava/lang/Object;)Z" } : Jvm.MethodName)) ∈ lw_all := lw_g (lw_at lw_m13 181 rfl) rfl
theorem q3142 : (Jvm.Cond.code ({ cls := "java/lang/Object", name := "equals", desc := "(Ljava/lang/Object;)Z" } : Jvm.MethodName) object_method_4_code (2 : Nat) (Option.some Jvm.ClassFile.FieldType.boolean)) ∈ lw_all := lw_g (lw_at lw_m13 182 rfl) rfl
theorem q3143 : (Jvm.Cond.methodLink "MasterTree" (525 : Nat) ({ cls := "MasterTree", name := "haveSameRules", desc := "(LMasterTree$Entry;LMasterTree$Entry;)Z" } : Jvm.MethodName)) ∈ lw_all := lw_g (lw_at lw_m13 183 rfl) rfl
theorem q3144 : (Jvm.Cond.static ({ cls := "MasterTree", name := "haveSameRules", desc := "(LMasterTree$Entry;LMasterTree$Entry;)Z" } : Jvm.MethodName)) ∈ lw_all := lw_g (lw_at lw_m13 184 rfl) rfl
theorem q3145 : (Jvm.Cond.code ({ cls := "MasterTree", name := "haveSameRules", desc := "(LMasterTree$Entry;LMasterTree$Entry;)Z" } : Jvm.MethodName) prog_1_method_64_code (5 : Nat) (Option.some Jvm.ClassFile.FieldType.boolean)) ∈ lw_all := lw_g (lw_at lw_m13 185 rfl) rfl
theorem q3146 : (Jvm.Cond.methodLink "MasterTree" (511 : Nat) ({ cls := "java/util/TreeMap", name := "keySet", desc := "()Ljava/util/Set;" } : Jvm.MethodName)) ∈ lw_all := lw_g (lw_at lw_m13 186 rfl) rfl
theorem q3147 : (Jvm.Cond.interfaceEntry "MasterTree" (517 : Nat)) ∈ lw_tbl := lw_at lw_m13 187 rfl
theorem q3148 : (Jvm.Cond.methodLink "MasterTree" (517 : Nat) ({ cls := "java/util/Set", name := "iterator", desc := "()Ljava/util/Iterator;" } : Jvm.MethodName)) ∈ lw_all := lw_g (lw_at lw_m13 188 rfl) rfl
theorem q3149 : (Jvm.Cond.classLink "MasterTreeLaw" (140 : Nat) "MasterTreeModel") ∈ lw_all := lw_g (lw_at lw_m13 189 rfl) rfl
theorem q3150 : (Jvm.Cond.instantiable "MasterTreeModel" (67 : Nat)) ∈ lw_all := lw_g (lw_at lw_m13 190 rfl) rfl
theorem q3151 : (Jvm.Cond.methodLink "MasterTreeLaw" (142 : Nat) ({ cls := "MasterTreeModel", name := "<init>", desc := "()V" } : Jvm.MethodName)) ∈ lw_all := lw_g (lw_at lw_m13 191 rfl) rfl
theorem q3152 : (Jvm.Cond.instanceMethod ({ cls := "MasterTreeModel", name := "<init>", desc := "()V" } : Jvm.MethodName)) ∈ lw_all := lw_g (lw_at lw_m13 192 rfl) rfl
theorem q3153 : (Jvm.Cond.code ({ cls := "MasterTreeModel", name := "<init>", desc := "()V" } : Jvm.MethodName) prog_24_method_1_code (1 : Nat) (Option.none : Option Jvm.ClassFile.FieldType)) ∈ lw_all := lw_g (lw_at lw_m13 193 rfl) rfl
theorem q3154 : (Jvm.Cond.methodLink "MasterTreeModel" (1 : Nat) ({ cls := "java/lang/Object", name := "<init>", desc := "()V" } : Jvm.MethodName)) ∈ lw_all := lw_g (lw_at lw_m13 194 rfl) rfl
theorem q3155 : (Jvm.Cond.fieldLink "MasterTreeModel" (177 : Nat) "MasterTreeModel" "thrown" "I") ∈ lw_all := lw_g (lw_at lw_m13 195 rfl) rfl
theorem q3156 : (Jvm.Cond.fieldLink "MasterTreeModel" (184 : Nat) "MasterTreeModel" "attributes" "I") ∈ lw_all := lw_g (lw_at lw_m13 196 rfl) rfl
theorem q3157 : (Jvm.Cond.fieldLink "MasterTreeModel" (7 : Nat) "MasterTreeModel" "single" "[Z") ∈ lw_all := lw_g (lw_at lw_m13 197 rfl) rfl
theorem q3158 : (Jvm.Cond.fieldLink "MasterTreeModel" (13 : Nat) "MasterTreeModel" "tens" "[Z") ∈ lw_all := lw_g (lw_at lw_m13 198 rfl) rfl
theorem q3159 : (Jvm.Cond.fieldLink "MasterTreeModel" (187 : Nat) "MasterTreeModel" "classes" "I") ∈ lw_all := lw_g (lw_at lw_m13 199 rfl) rfl
theorem q3160 : (Jvm.Cond.fieldLink "MasterTreeModel" (16 : Nat) "MasterTreeModel" "above" "[I") ∈ lw_all := lw_g (lw_at lw_m13 200 rfl) rfl
theorem q3161 : (Jvm.Cond.fieldLink "MasterTreeModel" (20 : Nat) "MasterTreeModel" "requires" "[I") ∈ lw_all := lw_g (lw_at lw_m13 201 rfl) rfl
theorem q3162 : (Jvm.Cond.fieldLink "MasterTreeModel" (23 : Nat) "MasterTreeModel" "allows" "[I") ∈ lw_all := lw_g (lw_at lw_m13 202 rfl) rfl
theorem q3163 : (Jvm.Cond.fieldLink "MasterTreeModel" (256 : Nat) "MasterTreeModel" "drafts" "I") ∈ lw_all := lw_g (lw_at lw_m13 203 rfl) rfl
theorem q3164 : (Jvm.Cond.fieldLink "MasterTreeModel" (26 : Nat) "MasterTreeModel" "draftAttribute" "[I") ∈ lw_all := lw_g (lw_at lw_m13 204 rfl) rfl
theorem q3165 : (Jvm.Cond.fieldLink "MasterTreeModel" (29 : Nat) "MasterTreeModel" "draftValue" "[I") ∈ lw_all := lw_g (lw_at lw_m13 205 rfl) rfl
theorem q3166 : (Jvm.Cond.fieldLink "MasterTreeModel" (319 : Nat) "MasterTreeModel" "parts" "I") ∈ lw_all := lw_g (lw_at lw_m13 206 rfl) rfl
theorem q3167 : (Jvm.Cond.fieldLink "MasterTreeModel" (32 : Nat) "MasterTreeModel" "part" "[I") ∈ lw_all := lw_g (lw_at lw_m13 207 rfl) rfl
theorem q3168 : (Jvm.Cond.fieldLink "MasterTreeModel" (35 : Nat) "MasterTreeModel" "left" "[I") ∈ lw_all := lw_g (lw_at lw_m13 208 rfl) rfl
theorem q3169 : (Jvm.Cond.fieldLink "MasterTreeModel" (38 : Nat) "MasterTreeModel" "right" "[I") ∈ lw_all := lw_g (lw_at lw_m13 209 rfl) rfl
theorem q3170 : (Jvm.Cond.fieldLink "MasterTreeModel" (41 : Nat) "MasterTreeModel" "truth" "[Z") ∈ lw_all := lw_g (lw_at lw_m13 210 rfl) rfl
theorem q3171 : (Jvm.Cond.fieldLink "MasterTreeModel" (316 : Nat) "MasterTreeModel" "filters" "I") ∈ lw_all := lw_g (lw_at lw_m13 211 rfl) rfl
theorem q3172 : (Jvm.Cond.fieldLink "MasterTreeModel" (44 : Nat) "MasterTreeModel" "filter" "[I") ∈ lw_all := lw_g (lw_at lw_m13 212 rfl) rfl
theorem q3173 : (Jvm.Cond.fieldLink "MasterTreeModel" (47 : Nat) "MasterTreeModel" "user" "[I") ∈ lw_all := lw_g (lw_at lw_m13 213 rfl) rfl
theorem q3174 : (Jvm.Cond.fieldLink "MasterTreeModel" (50 : Nat) "MasterTreeModel" "view" "[I") ∈ lw_all := lw_g (lw_at lw_m13 214 rfl) rfl
theorem q3175 : (Jvm.Cond.fieldLink "MasterTreeModel" (53 : Nat) "MasterTreeModel" "dropped" "[Z") ∈ lw_all := lw_g (lw_at lw_m13 215 rfl) rfl
theorem q3176 : (Jvm.Cond.fieldLink "MasterTreeModel" (56 : Nat) "MasterTreeModel" "entries" "I") ∈ lw_all := lw_g (lw_at lw_m13 216 rfl) rfl
theorem q3177 : (Jvm.Cond.fieldLink "MasterTreeModel" (212 : Nat) "MasterTreeModel" "changes" "I") ∈ lw_all := lw_g (lw_at lw_m13 217 rfl) rfl
theorem q3178 : (Jvm.Cond.fieldLink "MasterTreeModel" (60 : Nat) "MasterTreeModel" "stamp" "[I") ∈ lw_all := lw_g (lw_at lw_m13 218 rfl) rfl
theorem q3179 : (Jvm.Cond.fieldLink "MasterTreeModel" (63 : Nat) "MasterTreeModel" "maker" "[I") ∈ lw_all := lw_g (lw_at lw_m13 219 rfl) rfl
theorem q3180 : (Jvm.Cond.fieldLink "MasterTreeModel" (66 : Nat) "MasterTreeModel" "number" "[I") ∈ lw_all := lw_g (lw_at lw_m13 220 rfl) rfl
theorem q3181 : (Jvm.Cond.fieldLink "MasterTreeModel" (69 : Nat) "MasterTreeModel" "kind" "[I") ∈ lw_all := lw_g (lw_at lw_m13 221 rfl) rfl
theorem q3182 : (Jvm.Cond.fieldLink "MasterTreeModel" (72 : Nat) "MasterTreeModel" "of" "[I") ∈ lw_all := lw_g (lw_at lw_m13 222 rfl) rfl
theorem q3183 : (Jvm.Cond.fieldLink "MasterTreeModel" (75 : Nat) "MasterTreeModel" "one" "[I") ∈ lw_all := lw_g (lw_at lw_m13 223 rfl) rfl
theorem q3184 : (Jvm.Cond.fieldLink "MasterTreeModel" (78 : Nat) "MasterTreeModel" "two" "[I") ∈ lw_all := lw_g (lw_at lw_m13 224 rfl) rfl
theorem q3185 : (Jvm.Cond.fieldLink "MasterTreeModel" (81 : Nat) "MasterTreeModel" "three" "[I") ∈ lw_all := lw_g (lw_at lw_m13 225 rfl) rfl
theorem q3186 : (Jvm.Cond.fieldLink "MasterTreeModel" (288 : Nat) "MasterTreeModel" "added" "I") ∈ lw_all := lw_g (lw_at lw_m13 226 rfl) rfl
theorem q3187 : (Jvm.Cond.fieldLink "MasterTreeModel" (84 : Nat) "MasterTreeModel" "from" "[I") ∈ lw_all := lw_g (lw_at lw_m13 227 rfl) rfl
theorem q3188 : (Jvm.Cond.fieldLink "MasterTreeModel" (87 : Nat) "MasterTreeModel" "to" "[I") ∈ lw_all := lw_g (lw_at lw_m13 228 rfl) rfl
theorem q3189 : (Jvm.Cond.fieldLink "MasterTreeModel" (90 : Nat) "MasterTreeModel" "addedAttribute" "[I") ∈ lw_all := lw_g (lw_at lw_m13 229 rfl) rfl
theorem q3190 : (Jvm.Cond.fieldLink "MasterTreeModel" (93 : Nat) "MasterTreeModel" "addedValue" "[I") ∈ lw_all := lw_g (lw_at lw_m13 230 rfl) rfl
theorem q3191 : (Jvm.Cond.fieldLink "MasterTreeModel" (96 : Nat) "MasterTreeModel" "order" "[I") ∈ lw_all := lw_g (lw_at lw_m13 231 rfl) rfl
theorem q3192 : (Jvm.Cond.fieldLink "MasterTreeModel" (99 : Nat) "MasterTreeModel" "laid" "I") ∈ lw_all := lw_g (lw_at lw_m13 232 rfl) rfl
theorem q3193 : (Jvm.Cond.fieldLink "MasterTreeModel" (102 : Nat) "MasterTreeModel" "there" "[Z") ∈ lw_all := lw_g (lw_at lw_m13 233 rfl) rfl
theorem q3194 : (Jvm.Cond.fieldLink "MasterTreeModel" (105 : Nat) "MasterTreeModel" "dead" "[Z") ∈ lw_all := lw_g (lw_at lw_m13 234 rfl) rfl
theorem q3195 : (Jvm.Cond.fieldLink "MasterTreeModel" (108 : Nat) "MasterTreeModel" "klass" "[I") ∈ lw_all := lw_g (lw_at lw_m13 235 rfl) rfl
theorem q3196 : (Jvm.Cond.fieldLink "MasterTreeModel" (111 : Nat) "MasterTreeModel" "parent" "[I") ∈ lw_all := lw_g (lw_at lw_m13 236 rfl) rfl
theorem q3197 : (Jvm.Cond.fieldLink "MasterTreeModel" (114 : Nat) "MasterTreeModel" "name" "[I") ∈ lw_all := lw_g (lw_at lw_m13 237 rfl) rfl
theorem q3198 : (Jvm.Cond.fieldLink "MasterTreeModel" (117 : Nat) "MasterTreeModel" "target" "[I") ∈ lw_all := lw_g (lw_at lw_m13 238 rfl) rfl
theorem q3199 : (Jvm.Cond.fieldLink "MasterTreeModel" (120 : Nat) "MasterTreeModel" "born" "[I") ∈ lw_all := lw_g (lw_at lw_m13 239 rfl) rfl
theorem q3200 : (Jvm.Cond.fieldLink "MasterTreeModel" (123 : Nat) "MasterTreeModel" "place" "[I") ∈ lw_all := lw_g (lw_at lw_m14 0 rfl) rfl
theorem q3201 : (Jvm.Cond.fieldLink "MasterTreeModel" (126 : Nat) "MasterTreeModel" "shown" "[I") ∈ lw_all := lw_g (lw_at lw_m14 1 rfl) rfl
theorem q3202 : (Jvm.Cond.fieldLink "MasterTreeModel" (190 : Nat) "MasterTreeModel" "values" "I") ∈ lw_all := lw_g (lw_at lw_m14 2 rfl) rfl
theorem q3203 : (Jvm.Cond.fieldLink "MasterTreeModel" (129 : Nat) "MasterTreeModel" "valueEntry" "[I") ∈ lw_all := lw_g (lw_at lw_m14 3 rfl) rfl
theorem q3204 : (Jvm.Cond.fieldLink "MasterTreeModel" (132 : Nat) "MasterTreeModel" "valueAttribute" "[I") ∈ lw_all := lw_g (lw_at lw_m14 4 rfl) rfl
theorem q3205 : (Jvm.Cond.fieldLink "MasterTreeModel" (135 : Nat) "MasterTreeModel" "valueOf" "[I") ∈ lw_all := lw_g (lw_at lw_m14 5 rfl) rfl
theorem q3206 : (Jvm.Cond.fieldLink "MasterTreeModel" (138 : Nat) "MasterTreeModel" "says" "[I") ∈ lw_all := lw_g (lw_at lw_m14 6 rfl) rfl
theorem q3207 : (Jvm.Cond.fieldLink "MasterTreeModel" (343 : Nat) "MasterTreeModel" "found" "I") ∈ lw_all := lw_g (lw_at lw_m14 7 rfl) rfl
theorem q3208 : (Jvm.Cond.fieldLink "MasterTreeModel" (141 : Nat) "MasterTreeModel" "foundAt" "[I") ∈ lw_all := lw_g (lw_at lw_m14 8 rfl) rfl
theorem q3209 : (Jvm.Cond.fieldLink "MasterTreeModel" (350 : Nat) "MasterTreeModel" "waiting" "I") ∈ lw_all := lw_g (lw_at lw_m14 9 rfl) rfl
theorem q3210 : (Jvm.Cond.fieldLink "MasterTreeModel" (144 : Nat) "MasterTreeModel" "queue" "[I") ∈ lw_all := lw_g (lw_at lw_m14 10 rfl) rfl
theorem q3211 : (Jvm.Cond.fieldLink "MasterTreeModel" (147 : Nat) "MasterTreeModel" "met" "[Z") ∈ lw_all := lw_g (lw_at lw_m14 11 rfl) rfl
theorem q3212 : (Jvm.Cond.fieldLink "MasterTreeModel" (150 : Nat) "MasterTreeModel" "otherLive" "[Z") ∈ lw_all := lw_g (lw_at lw_m14 12 rfl) rfl
theorem q3213 : (Jvm.Cond.fieldLink "MasterTreeModel" (153 : Nat) "MasterTreeModel" "otherKlass" "[I") ∈ lw_all := lw_g (lw_at lw_m14 13 rfl) rfl
theorem q3214 : (Jvm.Cond.fieldLink "MasterTreeModel" (156 : Nat) "MasterTreeModel" "otherPlace" "[I") ∈ lw_all := lw_g (lw_at lw_m14 14 rfl) rfl
theorem q3215 : (Jvm.Cond.fieldLink "MasterTreeModel" (159 : Nat) "MasterTreeModel" "otherShown" "[I") ∈ lw_all := lw_g (lw_at lw_m14 15 rfl) rfl
theorem q3216 : (Jvm.Cond.fieldLink "MasterTreeModel" (162 : Nat) "MasterTreeModel" "otherTarget" "[I") ∈ lw_all := lw_g (lw_at lw_m14 16 rfl) rfl
theorem q3217 : (Jvm.Cond.fieldLink "MasterTreeModel" (365 : Nat) "MasterTreeModel" "otherValues" "I") ∈ lw_all := lw_g (lw_at lw_m14 17 rfl) rfl
theorem q3218 : (Jvm.Cond.fieldLink "MasterTreeModel" (165 : Nat) "MasterTreeModel" "otherEntry" "[I") ∈ lw_all := lw_g (lw_at lw_m14 18 rfl) rfl
theorem q3219 : (Jvm.Cond.fieldLink "MasterTreeModel" (168 : Nat) "MasterTreeModel" "otherAttribute" "[I") ∈ lw_all := lw_g (lw_at lw_m14 19 rfl) rfl
theorem q3220 : (Jvm.Cond.fieldLink "MasterTreeModel" (171 : Nat) "MasterTreeModel" "otherOf" "[I") ∈ lw_all := lw_g (lw_at lw_m14 20 rfl) rfl
theorem q3221 : (Jvm.Cond.fieldLink "MasterTreeModel" (174 : Nat) "MasterTreeModel" "otherSays" "[I") ∈ lw_all := lw_g (lw_at lw_m14 21 rfl) rfl
theorem q3222 : (Jvm.Cond.lays "MasterTreeModel" "MasterTreeModel" "thrown" "I") ∈ lw_all := lw_g (lw_at lw_m14 22 rfl) rfl
theorem q3223 : (Jvm.Cond.soleField "MasterTreeModel" "thrown") ∈ lw_all := lw_g (lw_at lw_m14 23 rfl) rfl
theorem q3224 : (Jvm.Cond.lays "MasterTreeModel" "MasterTreeModel" "attributes" "I") ∈ lw_all := lw_g (lw_at lw_m14 24 rfl) rfl
theorem q3225 : (Jvm.Cond.soleField "MasterTreeModel" "attributes") ∈ lw_all := lw_g (lw_at lw_m14 25 rfl) rfl
theorem q3226 : (Jvm.Cond.laysFinal "MasterTreeModel" "MasterTreeModel" "single" "[Z") ∈ lw_all := lw_g (lw_at lw_m14 26 rfl) rfl
theorem q3227 : (Jvm.Cond.soleField "MasterTreeModel" "single") ∈ lw_all := lw_g (lw_at lw_m14 27 rfl) rfl
theorem q3228 : (Jvm.Cond.laysFinal "MasterTreeModel" "MasterTreeModel" "tens" "[Z") ∈ lw_all := lw_g (lw_at lw_m14 28 rfl) rfl
theorem q3229 : (Jvm.Cond.soleField "MasterTreeModel" "tens") ∈ lw_all := lw_g (lw_at lw_m14 29 rfl) rfl
theorem q3230 : (Jvm.Cond.lays "MasterTreeModel" "MasterTreeModel" "classes" "I") ∈ lw_all := lw_g (lw_at lw_m14 30 rfl) rfl
theorem q3231 : (Jvm.Cond.soleField "MasterTreeModel" "classes") ∈ lw_all := lw_g (lw_at lw_m14 31 rfl) rfl
theorem q3232 : (Jvm.Cond.laysFinal "MasterTreeModel" "MasterTreeModel" "above" "[I") ∈ lw_all := lw_g (lw_at lw_m14 32 rfl) rfl
theorem q3233 : (Jvm.Cond.soleField "MasterTreeModel" "above") ∈ lw_all := lw_g (lw_at lw_m14 33 rfl) rfl
theorem q3234 : (Jvm.Cond.laysFinal "MasterTreeModel" "MasterTreeModel" "requires" "[I") ∈ lw_all := lw_g (lw_at lw_m14 34 rfl) rfl
theorem q3235 : (Jvm.Cond.soleField "MasterTreeModel" "requires") ∈ lw_all := lw_g (lw_at lw_m14 35 rfl) rfl
theorem q3236 : (Jvm.Cond.laysFinal "MasterTreeModel" "MasterTreeModel" "allows" "[I") ∈ lw_all := lw_g (lw_at lw_m14 36 rfl) rfl
theorem q3237 : (Jvm.Cond.soleField "MasterTreeModel" "allows") ∈ lw_all := lw_g (lw_at lw_m14 37 rfl) rfl
theorem q3238 : (Jvm.Cond.lays "MasterTreeModel" "MasterTreeModel" "drafts" "I") ∈ lw_all := lw_g (lw_at lw_m14 38 rfl) rfl
theorem q3239 : (Jvm.Cond.soleField "MasterTreeModel" "drafts") ∈ lw_all := lw_g (lw_at lw_m14 39 rfl) rfl
theorem q3240 : (Jvm.Cond.laysFinal "MasterTreeModel" "MasterTreeModel" "draftAttribute" "[I") ∈ lw_all := lw_g (lw_at lw_m14 40 rfl) rfl
theorem q3241 : (Jvm.Cond.soleField "MasterTreeModel" "draftAttribute") ∈ lw_all := lw_g (lw_at lw_m14 41 rfl) rfl
theorem q3242 : (Jvm.Cond.laysFinal "MasterTreeModel" "MasterTreeModel" "draftValue" "[I") ∈ lw_all := lw_g (lw_at lw_m14 42 rfl) rfl
theorem q3243 : (Jvm.Cond.soleField "MasterTreeModel" "draftValue") ∈ lw_all := lw_g (lw_at lw_m14 43 rfl) rfl
theorem q3244 : (Jvm.Cond.lays "MasterTreeModel" "MasterTreeModel" "parts" "I") ∈ lw_all := lw_g (lw_at lw_m14 44 rfl) rfl
theorem q3245 : (Jvm.Cond.soleField "MasterTreeModel" "parts") ∈ lw_all := lw_g (lw_at lw_m14 45 rfl) rfl
theorem q3246 : (Jvm.Cond.laysFinal "MasterTreeModel" "MasterTreeModel" "part" "[I") ∈ lw_all := lw_g (lw_at lw_m14 46 rfl) rfl
theorem q3247 : (Jvm.Cond.soleField "MasterTreeModel" "part") ∈ lw_all := lw_g (lw_at lw_m14 47 rfl) rfl
theorem q3248 : (Jvm.Cond.laysFinal "MasterTreeModel" "MasterTreeModel" "left" "[I") ∈ lw_all := lw_g (lw_at lw_m14 48 rfl) rfl
theorem q3249 : (Jvm.Cond.soleField "MasterTreeModel" "left") ∈ lw_all := lw_g (lw_at lw_m14 49 rfl) rfl
theorem q3250 : (Jvm.Cond.laysFinal "MasterTreeModel" "MasterTreeModel" "right" "[I") ∈ lw_all := lw_g (lw_at lw_m14 50 rfl) rfl
theorem q3251 : (Jvm.Cond.soleField "MasterTreeModel" "right") ∈ lw_all := lw_g (lw_at lw_m14 51 rfl) rfl
theorem q3252 : (Jvm.Cond.laysFinal "MasterTreeModel" "MasterTreeModel" "truth" "[Z") ∈ lw_all := lw_g (lw_at lw_m14 52 rfl) rfl
theorem q3253 : (Jvm.Cond.soleField "MasterTreeModel" "truth") ∈ lw_all := lw_g (lw_at lw_m14 53 rfl) rfl
theorem q3254 : (Jvm.Cond.lays "MasterTreeModel" "MasterTreeModel" "filters" "I") ∈ lw_all := lw_g (lw_at lw_m14 54 rfl) rfl
theorem q3255 : (Jvm.Cond.soleField "MasterTreeModel" "filters") ∈ lw_all := lw_g (lw_at lw_m14 55 rfl) rfl
theorem q3256 : (Jvm.Cond.laysFinal "MasterTreeModel" "MasterTreeModel" "filter" "[I") ∈ lw_all := lw_g (lw_at lw_m14 56 rfl) rfl
theorem q3257 : (Jvm.Cond.soleField "MasterTreeModel" "filter") ∈ lw_all := lw_g (lw_at lw_m14 57 rfl) rfl
theorem q3258 : (Jvm.Cond.laysFinal "MasterTreeModel" "MasterTreeModel" "user" "[I") ∈ lw_all := lw_g (lw_at lw_m14 58 rfl) rfl
theorem q3259 : (Jvm.Cond.soleField "MasterTreeModel" "user") ∈ lw_all := lw_g (lw_at lw_m14 59 rfl) rfl
theorem q3260 : (Jvm.Cond.laysFinal "MasterTreeModel" "MasterTreeModel" "view" "[I") ∈ lw_all := lw_g (lw_at lw_m14 60 rfl) rfl
theorem q3261 : (Jvm.Cond.soleField "MasterTreeModel" "view") ∈ lw_all := lw_g (lw_at lw_m14 61 rfl) rfl
theorem q3262 : (Jvm.Cond.laysFinal "MasterTreeModel" "MasterTreeModel" "dropped" "[Z") ∈ lw_all := lw_g (lw_at lw_m14 62 rfl) rfl
theorem q3263 : (Jvm.Cond.soleField "MasterTreeModel" "dropped") ∈ lw_all := lw_g (lw_at lw_m14 63 rfl) rfl
theorem q3264 : (Jvm.Cond.lays "MasterTreeModel" "MasterTreeModel" "entries" "I") ∈ lw_all := lw_g (lw_at lw_m14 64 rfl) rfl
theorem q3265 : (Jvm.Cond.soleField "MasterTreeModel" "entries") ∈ lw_all := lw_g (lw_at lw_m14 65 rfl) rfl
theorem q3266 : (Jvm.Cond.lays "MasterTreeModel" "MasterTreeModel" "changes" "I") ∈ lw_all := lw_g (lw_at lw_m14 66 rfl) rfl
theorem q3267 : (Jvm.Cond.soleField "MasterTreeModel" "changes") ∈ lw_all := lw_g (lw_at lw_m14 67 rfl) rfl
theorem q3268 : (Jvm.Cond.laysFinal "MasterTreeModel" "MasterTreeModel" "stamp" "[I") ∈ lw_all := lw_g (lw_at lw_m14 68 rfl) rfl
theorem q3269 : (Jvm.Cond.soleField "MasterTreeModel" "stamp") ∈ lw_all := lw_g (lw_at lw_m14 69 rfl) rfl
theorem q3270 : (Jvm.Cond.laysFinal "MasterTreeModel" "MasterTreeModel" "maker" "[I") ∈ lw_all := lw_g (lw_at lw_m14 70 rfl) rfl
theorem q3271 : (Jvm.Cond.soleField "MasterTreeModel" "maker") ∈ lw_all := lw_g (lw_at lw_m14 71 rfl) rfl
theorem q3272 : (Jvm.Cond.laysFinal "MasterTreeModel" "MasterTreeModel" "number" "[I") ∈ lw_all := lw_g (lw_at lw_m14 72 rfl) rfl
theorem q3273 : (Jvm.Cond.soleField "MasterTreeModel" "number") ∈ lw_all := lw_g (lw_at lw_m14 73 rfl) rfl
theorem q3274 : (Jvm.Cond.laysFinal "MasterTreeModel" "MasterTreeModel" "kind" "[I") ∈ lw_all := lw_g (lw_at lw_m14 74 rfl) rfl
theorem q3275 : (Jvm.Cond.soleField "MasterTreeModel" "kind") ∈ lw_all := lw_g (lw_at lw_m14 75 rfl) rfl
theorem q3276 : (Jvm.Cond.laysFinal "MasterTreeModel" "MasterTreeModel" "of" "[I") ∈ lw_all := lw_g (lw_at lw_m14 76 rfl) rfl
theorem q3277 : (Jvm.Cond.soleField "MasterTreeModel" "of") ∈ lw_all := lw_g (lw_at lw_m14 77 rfl) rfl
theorem q3278 : (Jvm.Cond.laysFinal "MasterTreeModel" "MasterTreeModel" "one" "[I") ∈ lw_all := lw_g (lw_at lw_m14 78 rfl) rfl
theorem q3279 : (Jvm.Cond.soleField "MasterTreeModel" "one") ∈ lw_all := lw_g (lw_at lw_m14 79 rfl) rfl
theorem q3280 : (Jvm.Cond.laysFinal "MasterTreeModel" "MasterTreeModel" "two" "[I") ∈ lw_all := lw_g (lw_at lw_m14 80 rfl) rfl
theorem q3281 : (Jvm.Cond.soleField "MasterTreeModel" "two") ∈ lw_all := lw_g (lw_at lw_m14 81 rfl) rfl
theorem q3282 : (Jvm.Cond.laysFinal "MasterTreeModel" "MasterTreeModel" "three" "[I") ∈ lw_all := lw_g (lw_at lw_m14 82 rfl) rfl
theorem q3283 : (Jvm.Cond.soleField "MasterTreeModel" "three") ∈ lw_all := lw_g (lw_at lw_m14 83 rfl) rfl
theorem q3284 : (Jvm.Cond.lays "MasterTreeModel" "MasterTreeModel" "added" "I") ∈ lw_all := lw_g (lw_at lw_m14 84 rfl) rfl
theorem q3285 : (Jvm.Cond.soleField "MasterTreeModel" "added") ∈ lw_all := lw_g (lw_at lw_m14 85 rfl) rfl
theorem q3286 : (Jvm.Cond.laysFinal "MasterTreeModel" "MasterTreeModel" "from" "[I") ∈ lw_all := lw_g (lw_at lw_m14 86 rfl) rfl
theorem q3287 : (Jvm.Cond.soleField "MasterTreeModel" "from") ∈ lw_all := lw_g (lw_at lw_m14 87 rfl) rfl
theorem q3288 : (Jvm.Cond.laysFinal "MasterTreeModel" "MasterTreeModel" "to" "[I") ∈ lw_all := lw_g (lw_at lw_m14 88 rfl) rfl
theorem q3289 : (Jvm.Cond.soleField "MasterTreeModel" "to") ∈ lw_all := lw_g (lw_at lw_m14 89 rfl) rfl
theorem q3290 : (Jvm.Cond.laysFinal "MasterTreeModel" "MasterTreeModel" "addedAttribute" "[I") ∈ lw_all := lw_g (lw_at lw_m14 90 rfl) rfl
theorem q3291 : (Jvm.Cond.soleField "MasterTreeModel" "addedAttribute") ∈ lw_all := lw_g (lw_at lw_m14 91 rfl) rfl
theorem q3292 : (Jvm.Cond.laysFinal "MasterTreeModel" "MasterTreeModel" "addedValue" "[I") ∈ lw_all := lw_g (lw_at lw_m14 92 rfl) rfl
theorem q3293 : (Jvm.Cond.soleField "MasterTreeModel" "addedValue") ∈ lw_all := lw_g (lw_at lw_m14 93 rfl) rfl
theorem q3294 : (Jvm.Cond.laysFinal "MasterTreeModel" "MasterTreeModel" "order" "[I") ∈ lw_all := lw_g (lw_at lw_m14 94 rfl) rfl
theorem q3295 : (Jvm.Cond.soleField "MasterTreeModel" "order") ∈ lw_all := lw_g (lw_at lw_m14 95 rfl) rfl
theorem q3296 : (Jvm.Cond.lays "MasterTreeModel" "MasterTreeModel" "laid" "I") ∈ lw_all := lw_g (lw_at lw_m14 96 rfl) rfl
theorem q3297 : (Jvm.Cond.soleField "MasterTreeModel" "laid") ∈ lw_all := lw_g (lw_at lw_m14 97 rfl) rfl
theorem q3298 : (Jvm.Cond.laysFinal "MasterTreeModel" "MasterTreeModel" "there" "[Z") ∈ lw_all := lw_g (lw_at lw_m14 98 rfl) rfl
theorem q3299 : (Jvm.Cond.soleField "MasterTreeModel" "there") ∈ lw_all := lw_g (lw_at lw_m14 99 rfl) rfl
theorem q3300 : (Jvm.Cond.laysFinal "MasterTreeModel" "MasterTreeModel" "dead" "[Z") ∈ lw_all := lw_g (lw_at lw_m14 100 rfl) rfl
theorem q3301 : (Jvm.Cond.soleField "MasterTreeModel" "dead") ∈ lw_all := lw_g (lw_at lw_m14 101 rfl) rfl
theorem q3302 : (Jvm.Cond.laysFinal "MasterTreeModel" "MasterTreeModel" "klass" "[I") ∈ lw_all := lw_g (lw_at lw_m14 102 rfl) rfl
theorem q3303 : (Jvm.Cond.soleField "MasterTreeModel" "klass") ∈ lw_all := lw_g (lw_at lw_m14 103 rfl) rfl
theorem q3304 : (Jvm.Cond.laysFinal "MasterTreeModel" "MasterTreeModel" "parent" "[I") ∈ lw_all := lw_g (lw_at lw_m14 104 rfl) rfl
theorem q3305 : (Jvm.Cond.soleField "MasterTreeModel" "parent") ∈ lw_all := lw_g (lw_at lw_m14 105 rfl) rfl
theorem q3306 : (Jvm.Cond.laysFinal "MasterTreeModel" "MasterTreeModel" "name" "[I") ∈ lw_all := lw_g (lw_at lw_m14 106 rfl) rfl
theorem q3307 : (Jvm.Cond.soleField "MasterTreeModel" "name") ∈ lw_all := lw_g (lw_at lw_m14 107 rfl) rfl
theorem q3308 : (Jvm.Cond.laysFinal "MasterTreeModel" "MasterTreeModel" "target" "[I") ∈ lw_all := lw_g (lw_at lw_m14 108 rfl) rfl
theorem q3309 : (Jvm.Cond.soleField "MasterTreeModel" "target") ∈ lw_all := lw_g (lw_at lw_m14 109 rfl) rfl
theorem q3310 : (Jvm.Cond.laysFinal "MasterTreeModel" "MasterTreeModel" "born" "[I") ∈ lw_all := lw_g (lw_at lw_m14 110 rfl) rfl
theorem q3311 : (Jvm.Cond.soleField "MasterTreeModel" "born") ∈ lw_all := lw_g (lw_at lw_m14 111 rfl) rfl
theorem q3312 : (Jvm.Cond.laysFinal "MasterTreeModel" "MasterTreeModel" "place" "[I") ∈ lw_all := lw_g (lw_at lw_m14 112 rfl) rfl
theorem q3313 : (Jvm.Cond.soleField "MasterTreeModel" "place") ∈ lw_all := lw_g (lw_at lw_m14 113 rfl) rfl
theorem q3314 : (Jvm.Cond.laysFinal "MasterTreeModel" "MasterTreeModel" "shown" "[I") ∈ lw_all := lw_g (lw_at lw_m14 114 rfl) rfl
theorem q3315 : (Jvm.Cond.soleField "MasterTreeModel" "shown") ∈ lw_all := lw_g (lw_at lw_m14 115 rfl) rfl
theorem q3316 : (Jvm.Cond.lays "MasterTreeModel" "MasterTreeModel" "values" "I") ∈ lw_all := lw_g (lw_at lw_m14 116 rfl) rfl
theorem q3317 : (Jvm.Cond.soleField "MasterTreeModel" "values") ∈ lw_all := lw_g (lw_at lw_m14 117 rfl) rfl
theorem q3318 : (Jvm.Cond.laysFinal "MasterTreeModel" "MasterTreeModel" "valueEntry" "[I") ∈ lw_all := lw_g (lw_at lw_m14 118 rfl) rfl
theorem q3319 : (Jvm.Cond.soleField "MasterTreeModel" "valueEntry") ∈ lw_all := lw_g (lw_at lw_m14 119 rfl) rfl
theorem q3320 : (Jvm.Cond.laysFinal "MasterTreeModel" "MasterTreeModel" "valueAttribute" "[I") ∈ lw_all := lw_g (lw_at lw_m14 120 rfl) rfl
theorem q3321 : (Jvm.Cond.soleField "MasterTreeModel" "valueAttribute") ∈ lw_all := lw_g (lw_at lw_m14 121 rfl) rfl
theorem q3322 : (Jvm.Cond.laysFinal "MasterTreeModel" "MasterTreeModel" "valueOf" "[I") ∈ lw_all := lw_g (lw_at lw_m14 122 rfl) rfl
theorem q3323 : (Jvm.Cond.soleField "MasterTreeModel" "valueOf") ∈ lw_all := lw_g (lw_at lw_m14 123 rfl) rfl
theorem q3324 : (Jvm.Cond.laysFinal "MasterTreeModel" "MasterTreeModel" "says" "[I") ∈ lw_all := lw_g (lw_at lw_m14 124 rfl) rfl
theorem q3325 : (Jvm.Cond.soleField "MasterTreeModel" "says") ∈ lw_all := lw_g (lw_at lw_m14 125 rfl) rfl
theorem q3326 : (Jvm.Cond.lays "MasterTreeModel" "MasterTreeModel" "found" "I") ∈ lw_all := lw_g (lw_at lw_m14 126 rfl) rfl
theorem q3327 : (Jvm.Cond.soleField "MasterTreeModel" "found") ∈ lw_all := lw_g (lw_at lw_m14 127 rfl) rfl
theorem q3328 : (Jvm.Cond.laysFinal "MasterTreeModel" "MasterTreeModel" "foundAt" "[I") ∈ lw_all := lw_g (lw_at lw_m14 128 rfl) rfl
theorem q3329 : (Jvm.Cond.soleField "MasterTreeModel" "foundAt") ∈ lw_all := lw_g (lw_at lw_m14 129 rfl) rfl
theorem q3330 : (Jvm.Cond.lays "MasterTreeModel" "MasterTreeModel" "waiting" "I") ∈ lw_all := lw_g (lw_at lw_m14 130 rfl) rfl
theorem q3331 : (Jvm.Cond.soleField "MasterTreeModel" "waiting") ∈ lw_all := lw_g (lw_at lw_m14 131 rfl) rfl
theorem q3332 : (Jvm.Cond.laysFinal "MasterTreeModel" "MasterTreeModel" "queue" "[I") ∈ lw_all := lw_g (lw_at lw_m14 132 rfl) rfl
theorem q3333 : (Jvm.Cond.soleField "MasterTreeModel" "queue") ∈ lw_all := lw_g (lw_at lw_m14 133 rfl) rfl
theorem q3334 : (Jvm.Cond.laysFinal "MasterTreeModel" "MasterTreeModel" "met" "[Z") ∈ lw_all := lw_g (lw_at lw_m14 134 rfl) rfl
theorem q3335 : (Jvm.Cond.soleField "MasterTreeModel" "met") ∈ lw_all := lw_g (lw_at lw_m14 135 rfl) rfl
theorem q3336 : (Jvm.Cond.laysFinal "MasterTreeModel" "MasterTreeModel" "otherLive" "[Z") ∈ lw_all := lw_g (lw_at lw_m14 136 rfl) rfl
theorem q3337 : (Jvm.Cond.soleField "MasterTreeModel" "otherLive") ∈ lw_all := lw_g (lw_at lw_m14 137 rfl) rfl
theorem q3338 : (Jvm.Cond.laysFinal "MasterTreeModel" "MasterTreeModel" "otherKlass" "[I") ∈ lw_all := lw_g (lw_at lw_m14 138 rfl) rfl
theorem q3339 : (Jvm.Cond.soleField "MasterTreeModel" "otherKlass") ∈ lw_all := lw_g (lw_at lw_m14 139 rfl) rfl
theorem q3340 : (Jvm.Cond.laysFinal "MasterTreeModel" "MasterTreeModel" "otherPlace" "[I") ∈ lw_all := lw_g (lw_at lw_m14 140 rfl) rfl
theorem q3341 : (Jvm.Cond.soleField "MasterTreeModel" "otherPlace") ∈ lw_all := lw_g (lw_at lw_m14 141 rfl) rfl
theorem q3342 : (Jvm.Cond.laysFinal "MasterTreeModel" "MasterTreeModel" "otherShown" "[I") ∈ lw_all := lw_g (lw_at lw_m14 142 rfl) rfl
theorem q3343 : (Jvm.Cond.soleField "MasterTreeModel" "otherShown") ∈ lw_all := lw_g (lw_at lw_m14 143 rfl) rfl
theorem q3344 : (Jvm.Cond.laysFinal "MasterTreeModel" "MasterTreeModel" "otherTarget" "[I") ∈ lw_all := lw_g (lw_at lw_m14 144 rfl) rfl
theorem q3345 : (Jvm.Cond.soleField "MasterTreeModel" "otherTarget") ∈ lw_all := lw_g (lw_at lw_m14 145 rfl) rfl
theorem q3346 : (Jvm.Cond.lays "MasterTreeModel" "MasterTreeModel" "otherValues" "I") ∈ lw_all := lw_g (lw_at lw_m14 146 rfl) rfl
theorem q3347 : (Jvm.Cond.soleField "MasterTreeModel" "otherValues") ∈ lw_all := lw_g (lw_at lw_m14 147 rfl) rfl
theorem q3348 : (Jvm.Cond.laysFinal "MasterTreeModel" "MasterTreeModel" "otherEntry" "[I") ∈ lw_all := lw_g (lw_at lw_m14 148 rfl) rfl
theorem q3349 : (Jvm.Cond.soleField "MasterTreeModel" "otherEntry") ∈ lw_all := lw_g (lw_at lw_m14 149 rfl) rfl
theorem q3350 : (Jvm.Cond.laysFinal "MasterTreeModel" "MasterTreeModel" "otherAttribute" "[I") ∈ lw_all := lw_g (lw_at lw_m14 150 rfl) rfl
theorem q3351 : (Jvm.Cond.soleField "MasterTreeModel" "otherAttribute") ∈ lw_all := lw_g (lw_at lw_m14 151 rfl) rfl
theorem q3352 : (Jvm.Cond.laysFinal "MasterTreeModel" "MasterTreeModel" "otherOf" "[I") ∈ lw_all := lw_g (lw_at lw_m14 152 rfl) rfl
theorem q3353 : (Jvm.Cond.soleField "MasterTreeModel" "otherOf") ∈ lw_all := lw_g (lw_at lw_m14 153 rfl) rfl
theorem q3354 : (Jvm.Cond.laysFinal "MasterTreeModel" "MasterTreeModel" "otherSays" "[I") ∈ lw_all := lw_g (lw_at lw_m14 154 rfl) rfl
theorem q3355 : (Jvm.Cond.soleField "MasterTreeModel" "otherSays") ∈ lw_all := lw_g (lw_at lw_m14 155 rfl) rfl
theorem q3356 : (Jvm.Cond.superclass "MasterTreeModel" "java/lang/Object") ∈ lw_all := lw_g (lw_at lw_m14 156 rfl) rfl
theorem q3357 : (Jvm.Cond.arrayClass Jvm.ClassFile.FieldType.boolean) ∈ lw_all := lw_g (lw_at lw_m14 157 rfl) rfl
theorem q3358 : (Jvm.Cond.methodLink "MasterTreeLaw" (149 : Nat) ({ cls := "MasterTreeModel", name := "thrown", desc := "()I" } : Jvm.MethodName)) ∈ lw_all := lw_g (lw_at lw_m14 158 rfl) rfl
theorem q3359 : (Jvm.Cond.instanceMethod ({ cls := "MasterTreeModel", name := "thrown", desc := "()I" } : Jvm.MethodName)) ∈ lw_all := lw_g (lw_at lw_m14 159 rfl) rfl
theorem q3360 : (Jvm.Cond.selects "MasterTreeModel" ({ cls := "MasterTreeModel", name := "thrown", desc := "()I" } : Jvm.MethodName) ({ cls := "MasterTreeModel", name := "thrown", desc := "()I" } : Jvm.MethodName)) ∈ lw_all := lw_g (lw_at lw_m14 160 rfl) rfl
theorem q3361 : (Jvm.Cond.code ({ cls := "MasterTreeModel", name := "thrown", desc := "()I" } : Jvm.MethodName) prog_24_method_2_code (1 : Nat) (Option.some Jvm.ClassFile.FieldType.int)) ∈ lw_all := lw_g (lw_at lw_m14 161 rfl) rfl
theorem q3362 : (Jvm.Cond.methodLink "MasterTreeLaw" (148 : Nat) ({ cls := "MasterTreeModel", name := "attribute", desc := "(ZZ)I" } : Jvm.MethodName)) ∈ lw_all := lw_g (lw_at lw_m14 162 rfl) rfl
theorem q3363 : (Jvm.Cond.instanceMethod ({ cls := "MasterTreeModel", name := "attribute", desc := "(ZZ)I" } : Jvm.MethodName)) ∈ lw_all := lw_g (lw_at lw_m14 163 rfl) rfl
theorem q3364 : (Jvm.Cond.selects "MasterTreeModel" ({ cls := "MasterTreeModel", name := "attribute", desc := "(ZZ)I" } : Jvm.MethodName) ({ cls := "MasterTreeModel", name := "attribute", desc := "(ZZ)I" } : Jvm.MethodName)) ∈ lw_all := lw_g (lw_at lw_m14 164 rfl) rfl
theorem q3365 : (Jvm.Cond.code ({ cls := "MasterTreeModel", name := "attribute", desc := "(ZZ)I" } : Jvm.MethodName) prog_24_method_30_code (3 : Nat) (Option.some Jvm.ClassFile.FieldType.int)) ∈ lw_all := lw_g (lw_at lw_m14 165 rfl) rfl
theorem q3366 : (Jvm.Cond.methodLink "MasterTreeModel" (246 : Nat) ({ cls := "MasterTreeModel", name := "fails", desc := "(I)I" } : Jvm.MethodName)) ∈ lw_all := lw_g (lw_at lw_m14 166 rfl) rfl
theorem q3367 : (Jvm.Cond.privateMethod ({ cls := "MasterTreeModel", name := "fails", desc := "(I)I" } : Jvm.MethodName)) ∈ lw_tbl := lw_at lw_m14 167 rfl
theorem q3368 : (Jvm.Cond.instanceMethod ({ cls := "MasterTreeModel", name := "fails", desc := "(I)I" } : Jvm.MethodName)) ∈ lw_all := lw_g (lw_at lw_m14 168 rfl) rfl
theorem q3369 : (Jvm.Cond.code ({ cls := "MasterTreeModel", name := "fails", desc := "(I)I" } : Jvm.MethodName) prog_24_method_3_code (2 : Nat) (Option.some Jvm.ClassFile.FieldType.int)) ∈ lw_all := lw_g (lw_at lw_m14 169 rfl) rfl
theorem q3370 : (Jvm.Cond.methodLink "MasterTreeLaw" (155 : Nat) ({ cls := "MasterTreeModel", name := "objectClass", desc := "(III)I" } : Jvm.MethodName)) ∈ lw_all := lw_g (lw_at lw_m14 170 rfl) rfl
theorem q3371 : (Jvm.Cond.instanceMethod ({ cls := "MasterTreeModel", name := "objectClass", desc := "(III)I" } : Jvm.MethodName)) ∈ lw_all := lw_g (lw_at lw_m14 171 rfl) rfl
theorem q3372 : (Jvm.Cond.selects "MasterTreeModel" ({ cls := "MasterTreeModel", name := "objectClass", desc := "(III)I" } : Jvm.MethodName) ({ cls := "MasterTreeModel", name := "objectClass", desc := "(III)I" } : Jvm.MethodName)) ∈ lw_all := lw_g (lw_at lw_m14 172 rfl) rfl
theorem q3373 : (Jvm.Cond.code ({ cls := "MasterTreeModel", name := "objectClass", desc := "(III)I" } : Jvm.MethodName) prog_24_method_31_code (4 : Nat) (Option.some Jvm.ClassFile.FieldType.int)) ∈ lw_all := lw_g (lw_at lw_m14 173 rfl) rfl
theorem q3374 : (Jvm.Cond.methodLink "MasterTreeModel" (180 : Nat) ({ cls := "MasterTreeModel", name := "in", desc := "(III)Z" } : Jvm.MethodName)) ∈ lw_all := lw_g (lw_at lw_m14 174 rfl) rfl
theorem q3375 : (Jvm.Cond.static ({ cls := "MasterTreeModel", name := "in", desc := "(III)Z" } : Jvm.MethodName)) ∈ lw_all := lw_g (lw_at lw_m14 175 rfl) rfl
theorem q3376 : (Jvm.Cond.code ({ cls := "MasterTreeModel", name := "in", desc := "(III)Z" } : Jvm.MethodName) prog_24_method_4_code (3 : Nat) (Option.some Jvm.ClassFile.FieldType.boolean)) ∈ lw_all := lw_g (lw_at lw_m14 176 rfl) rfl
theorem q3377 : (Jvm.Cond.methodLink "MasterTreeLaw" (159 : Nat) ({ cls := "MasterTreeModel", name := "serve", desc := "(II)I" } : Jvm.MethodName)) ∈ lw_all := lw_g (lw_at lw_m14 177 rfl) rfl
theorem q3378 : (Jvm.Cond.instanceMethod ({ cls := "MasterTreeModel", name := "serve", desc := "(II)I" } : Jvm.MethodName)) ∈ lw_all := lw_g (lw_at lw_m14 178 rfl) rfl
theorem q3379 : (Jvm.Cond.selects "MasterTreeModel" ({ cls := "MasterTreeModel", name := "serve", desc := "(II)I" } : Jvm.MethodName) ({ cls := "MasterTreeModel", name := "serve", desc := "(II)I" } : Jvm.MethodName)) ∈ lw_all := lw_g (lw_at lw_m14 179 rfl) rfl
theorem q3380 : (Jvm.Cond.code ({ cls := "MasterTreeModel", name := "serve", desc := "(II)I" } : Jvm.MethodName) prog_24_method_32_code (4 : Nat) (Option.some Jvm.ClassFile.FieldType.int)) ∈ lw_all := lw_g (lw_at lw_m14 180 rfl) rfl
theorem q3381 : (Jvm.Cond.methodLink "MasterTreeModel" (226 : Nat) ({ cls := "MasterTreeModel", name := "isMaster", desc := "(I)Z" } : Jvm.MethodName)) ∈ lw_all := lw_g (lw_at lw_m14 181 rfl) rfl
theorem q3382 : (Jvm.Cond.static ({ cls := "MasterTreeModel", name := "isMaster", desc := "(I)Z" } : Jvm.MethodName)) ∈ lw_all := lw_g (lw_at lw_m14 182 rfl) rfl
theorem q3383 : (Jvm.Cond.code ({ cls := "MasterTreeModel", name := "isMaster", desc := "(I)Z" } : Jvm.MethodName) prog_24_method_5_code (1 : Nat) (Option.some Jvm.ClassFile.FieldType.boolean)) ∈ lw_all := lw_g (lw_at lw_m14 183 rfl) rfl
theorem q3384 : (Jvm.Cond.methodLink "MasterTreeLaw" (162 : Nat) ({ cls := "MasterTreeModel", name := "draft", desc := "(II)I" } : Jvm.MethodName)) ∈ lw_all := lw_g (lw_at lw_m14 184 rfl) rfl
theorem q3385 : (Jvm.Cond.instanceMethod ({ cls := "MasterTreeModel", name := "draft", desc := "(II)I" } : Jvm.MethodName)) ∈ lw_all := lw_g (lw_at lw_m14 185 rfl) rfl
theorem q3386 : (Jvm.Cond.selects "MasterTreeModel" ({ cls := "MasterTreeModel", name := "draft", desc := "(II)I" } : Jvm.MethodName) ({ cls := "MasterTreeModel", name := "draft", desc := "(II)I" } : Jvm.MethodName)) ∈ lw_all := lw_g (lw_at lw_m14 186 rfl) rfl
theorem q3387 : (Jvm.Cond.code ({ cls := "MasterTreeModel", name := "draft", desc := "(II)I" } : Jvm.MethodName) prog_24_method_33_code (3 : Nat) (Option.some Jvm.ClassFile.FieldType.int)) ∈ lw_all := lw_g (lw_at lw_m14 187 rfl) rfl
theorem q3388 : (Jvm.Cond.methodLink "MasterTreeModel" (250 : Nat) ({ cls := "MasterTreeModel", name := "isAttribute", desc := "(I)Z" } : Jvm.MethodName)) ∈ lw_all := lw_g (lw_at lw_m14 188 rfl) rfl
theorem q3389 : (Jvm.Cond.privateMethod ({ cls := "MasterTreeModel", name := "isAttribute", desc := "(I)Z" } : Jvm.MethodName)) ∈ lw_tbl := lw_at lw_m14 189 rfl
theorem q3390 : (Jvm.Cond.instanceMethod ({ cls := "MasterTreeModel", name := "isAttribute", desc := "(I)Z" } : Jvm.MethodName)) ∈ lw_all := lw_g (lw_at lw_m14 190 rfl) rfl
theorem q3391 : (Jvm.Cond.code ({ cls := "MasterTreeModel", name := "isAttribute", desc := "(I)Z" } : Jvm.MethodName) prog_24_method_6_code (2 : Nat) (Option.some Jvm.ClassFile.FieldType.boolean)) ∈ lw_all := lw_g (lw_at lw_m14 191 rfl) rfl
theorem q3392 : (Jvm.Cond.methodLink "MasterTreeModel" (253 : Nat) ({ cls := "MasterTreeModel", name := "isValue", desc := "(I)Z" } : Jvm.MethodName)) ∈ lw_all := lw_g (lw_at lw_m14 192 rfl) rfl
theorem q3393 : (Jvm.Cond.static ({ cls := "MasterTreeModel", name := "isValue", desc := "(I)Z" } : Jvm.MethodName)) ∈ lw_all := lw_g (lw_at lw_m14 193 rfl) rfl
theorem q3394 : (Jvm.Cond.code ({ cls := "MasterTreeModel", name := "isValue", desc := "(I)Z" } : Jvm.MethodName) prog_24_method_8_code (1 : Nat) (Option.some Jvm.ClassFile.FieldType.boolean)) ∈ lw_all := lw_g (lw_at lw_m14 194 rfl) rfl
theorem q3395 : (Jvm.Cond.methodLink "MasterTreeLaw" (166 : Nat) ({ cls := "MasterTreeModel", name := "undraft", desc := "()I" } : Jvm.MethodName)) ∈ lw_all := lw_g (lw_at lw_m14 195 rfl) rfl
theorem q3396 : (Jvm.Cond.instanceMethod ({ cls := "MasterTreeModel", name := "undraft", desc := "()I" } : Jvm.MethodName)) ∈ lw_all := lw_g (lw_at lw_m14 196 rfl) rfl
theorem q3397 : (Jvm.Cond.selects "MasterTreeModel" ({ cls := "MasterTreeModel", name := "undraft", desc := "()I" } : Jvm.MethodName) ({ cls := "MasterTreeModel", name := "undraft", desc := "()I" } : Jvm.MethodName)) ∈ lw_all := lw_g (lw_at lw_m14 197 rfl) rfl
theorem q3398 : (Jvm.Cond.code ({ cls := "MasterTreeModel", name := "undraft", desc := "()I" } : Jvm.MethodName) prog_24_method_34_code (2 : Nat) (Option.some Jvm.ClassFile.FieldType.int)) ∈ lw_all := lw_g (lw_at lw_m14 198 rfl) rfl
theorem q3399 : (Jvm.Cond.methodLink "MasterTreeLaw" (170 : Nat) ({ cls := "MasterTreeModel", name := "add", desc := "(IIII)I" } : Jvm.MethodName)) ∈ lw_all := lw_g (lw_at lw_m14 199 rfl) rfl
theorem q3400 : (Jvm.Cond.instanceMethod ({ cls := "MasterTreeModel", name := "add", desc := "(IIII)I" } : Jvm.MethodName)) ∈ lw_all := lw_g (lw_at lw_m14 200 rfl) rfl
theorem q3401 : (Jvm.Cond.selects "MasterTreeModel" ({ cls := "MasterTreeModel", name := "add", desc := "(IIII)I" } : Jvm.MethodName) ({ cls := "MasterTreeModel", name := "add", desc := "(IIII)I" } : Jvm.MethodName)) ∈ lw_all := lw_g (lw_at lw_m14 201 rfl) rfl
theorem q3402 : (Jvm.Cond.code ({ cls := "MasterTreeModel", name := "add", desc := "(IIII)I" } : Jvm.MethodName) prog_24_method_36_code (7 : Nat) (Option.some Jvm.ClassFile.FieldType.int)) ∈ lw_all := lw_g (lw_at lw_m14 202 rfl) rfl
theorem q3403 : (Jvm.Cond.methodLink "MasterTreeModel" (265 : Nat) ({ cls := "MasterTreeModel", name := "isAt", desc := "(II)Z" } : Jvm.MethodName)) ∈ lw_all := lw_g (lw_at lw_m14 203 rfl) rfl
theorem q3404 : (Jvm.Cond.privateMethod ({ cls := "MasterTreeModel", name := "isAt", desc := "(II)Z" } : Jvm.MethodName)) ∈ lw_tbl := lw_at lw_m14 204 rfl
theorem q3405 : (Jvm.Cond.instanceMethod ({ cls := "MasterTreeModel", name := "isAt", desc := "(II)Z" } : Jvm.MethodName)) ∈ lw_all := lw_g (lw_at lw_m14 205 rfl) rfl
theorem q3406 : (Jvm.Cond.code ({ cls := "MasterTreeModel", name := "isAt", desc := "(II)Z" } : Jvm.MethodName) prog_24_method_18_code (3 : Nat) (Option.some Jvm.ClassFile.FieldType.boolean)) ∈ lw_all := lw_g (lw_at lw_m14 206 rfl) rfl
theorem q3407 : (Jvm.Cond.methodLink "MasterTreeModel" (229 : Nat) ({ cls := "MasterTreeModel", name := "lays", desc := "(I)V" } : Jvm.MethodName)) ∈ lw_all := lw_g (lw_at lw_m14 207 rfl) rfl
theorem q3408 : (Jvm.Cond.privateMethod ({ cls := "MasterTreeModel", name := "lays", desc := "(I)V" } : Jvm.MethodName)) ∈ lw_tbl := lw_at lw_m14 208 rfl
theorem q3409 : (Jvm.Cond.instanceMethod ({ cls := "MasterTreeModel", name := "lays", desc := "(I)V" } : Jvm.MethodName)) ∈ lw_all := lw_g (lw_at lw_m14 209 rfl) rfl
theorem q3410 : (Jvm.Cond.code ({ cls := "MasterTreeModel", name := "lays", desc := "(I)V" } : Jvm.MethodName) prog_24_method_17_code (5 : Nat) (Option.none : Option Jvm.ClassFile.FieldType)) ∈ lw_all := lw_g (lw_at lw_m14 210 rfl) rfl
theorem q3411 : (Jvm.Cond.methodLink "MasterTreeModel" (215 : Nat) ({ cls := "MasterTreeModel", name := "isKnown", desc := "(II)Z" } : Jvm.MethodName)) ∈ lw_all := lw_g (lw_at lw_m14 211 rfl) rfl
theorem q3412 : (Jvm.Cond.privateMethod ({ cls := "MasterTreeModel", name := "isKnown", desc := "(II)Z" } : Jvm.MethodName)) ∈ lw_tbl := lw_at lw_m14 212 rfl
theorem q3413 : (Jvm.Cond.instanceMethod ({ cls := "MasterTreeModel", name := "isKnown", desc := "(II)Z" } : Jvm.MethodName)) ∈ lw_all := lw_g (lw_at lw_m14 213 rfl) rfl
theorem q3414 : (Jvm.Cond.code ({ cls := "MasterTreeModel", name := "isKnown", desc := "(II)Z" } : Jvm.MethodName) prog_24_method_10_code (3 : Nat) (Option.some Jvm.ClassFile.FieldType.boolean)) ∈ lw_all := lw_g (lw_at lw_m14 214 rfl) rfl
theorem q3415 : (Jvm.Cond.methodLink "MasterTreeModel" (218 : Nat) ({ cls := "MasterTreeModel", name := "does", desc := "(II)V" } : Jvm.MethodName)) ∈ lw_all := lw_g (lw_at lw_m14 215 rfl) rfl
theorem q3416 : (Jvm.Cond.privateMethod ({ cls := "MasterTreeModel", name := "does", desc := "(II)V" } : Jvm.MethodName)) ∈ lw_tbl := lw_at lw_m14 216 rfl
theorem q3417 : (Jvm.Cond.instanceMethod ({ cls := "MasterTreeModel", name := "does", desc := "(II)V" } : Jvm.MethodName)) ∈ lw_all := lw_g (lw_at lw_m14 217 rfl) rfl
theorem q3418 : (Jvm.Cond.code ({ cls := "MasterTreeModel", name := "does", desc := "(II)V" } : Jvm.MethodName) prog_24_method_15_code (5 : Nat) (Option.none : Option Jvm.ClassFile.FieldType)) ∈ lw_all := lw_g (lw_at lw_m14 218 rfl) rfl
theorem q3419 : (Jvm.Cond.methodLink "MasterTreeModel" (205 : Nat) ({ cls := "MasterTreeModel", name := "takesValue", desc := "(III)V" } : Jvm.MethodName)) ∈ lw_all := lw_g (lw_at lw_m14 219 rfl) rfl
theorem q3420 : (Jvm.Cond.privateMethod ({ cls := "MasterTreeModel", name := "takesValue", desc := "(III)V" } : Jvm.MethodName)) ∈ lw_tbl := lw_at lw_m14 220 rfl
theorem q3421 : (Jvm.Cond.instanceMethod ({ cls := "MasterTreeModel", name := "takesValue", desc := "(III)V" } : Jvm.MethodName)) ∈ lw_all := lw_g (lw_at lw_m14 221 rfl) rfl
theorem q3422 : (Jvm.Cond.code ({ cls := "MasterTreeModel", name := "takesValue", desc := "(III)V" } : Jvm.MethodName) prog_24_method_13_code (4 : Nat) (Option.none : Option Jvm.ClassFile.FieldType)) ∈ lw_all := lw_g (lw_at lw_m14 222 rfl) rfl
theorem q3423 : (Jvm.Cond.methodLink "MasterTreeModel" (197 : Nat) ({ cls := "MasterTreeModel", name := "drops", desc := "(IIZI)V" } : Jvm.MethodName)) ∈ lw_all := lw_g (lw_at lw_m14 223 rfl) rfl
theorem q3424 : (Jvm.Cond.privateMethod ({ cls := "MasterTreeModel", name := "drops", desc := "(IIZI)V" } : Jvm.MethodName)) ∈ lw_tbl := lw_at lw_m14 224 rfl
theorem q3425 : (Jvm.Cond.instanceMethod ({ cls := "MasterTreeModel", name := "drops", desc := "(IIZI)V" } : Jvm.MethodName)) ∈ lw_all := lw_g (lw_at lw_m14 225 rfl) rfl
theorem q3426 : (Jvm.Cond.code ({ cls := "MasterTreeModel", name := "drops", desc := "(IIZI)V" } : Jvm.MethodName) prog_24_method_11_code (8 : Nat) (Option.none : Option Jvm.ClassFile.FieldType)) ∈ lw_all := lw_g (lw_at lw_m14 226 rfl) rfl
theorem q3427 : (Jvm.Cond.methodLink "MasterTreeModel" (193 : Nat) ({ cls := "MasterTreeModel", name := "key", desc := "(II)I" } : Jvm.MethodName)) ∈ lw_all := lw_g (lw_at lw_m14 227 rfl) rfl
theorem q3428 : (Jvm.Cond.privateMethod ({ cls := "MasterTreeModel", name := "key", desc := "(II)I" } : Jvm.MethodName)) ∈ lw_tbl := lw_at lw_m14 228 rfl
theorem q3429 : (Jvm.Cond.instanceMethod ({ cls := "MasterTreeModel", name := "key", desc := "(II)I" } : Jvm.MethodName)) ∈ lw_all := lw_g (lw_at lw_m14 229 rfl) rfl
theorem q3430 : (Jvm.Cond.code ({ cls := "MasterTreeModel", name := "key", desc := "(II)I" } : Jvm.MethodName) prog_24_method_9_code (3 : Nat) (Option.some Jvm.ClassFile.FieldType.int)) ∈ lw_all := lw_g (lw_at lw_m14 230 rfl) rfl
theorem q3431 : (Jvm.Cond.methodLink "MasterTreeModel" (201 : Nat) ({ cls := "MasterTreeModel", name := "comes", desc := "(III)V" } : Jvm.MethodName)) ∈ lw_all := lw_g (lw_at lw_m14 231 rfl) rfl
theorem q3432 : (Jvm.Cond.privateMethod ({ cls := "MasterTreeModel", name := "comes", desc := "(III)V" } : Jvm.MethodName)) ∈ lw_tbl := lw_at lw_m14 232 rfl
theorem q3433 : (Jvm.Cond.instanceMethod ({ cls := "MasterTreeModel", name := "comes", desc := "(III)V" } : Jvm.MethodName)) ∈ lw_all := lw_g (lw_at lw_m14 233 rfl) rfl
theorem q3434 : (Jvm.Cond.code ({ cls := "MasterTreeModel", name := "comes", desc := "(III)V" } : Jvm.MethodName) prog_24_method_12_code (4 : Nat) (Option.none : Option Jvm.ClassFile.FieldType)) ∈ lw_all := lw_g (lw_at lw_m14 234 rfl) rfl
theorem q3435 : (Jvm.Cond.methodLink "MasterTreeModel" (208 : Nat) ({ cls := "MasterTreeModel", name := "isUp", desc := "(II)Z" } : Jvm.MethodName)) ∈ lw_all := lw_g (lw_at lw_m14 235 rfl) rfl
theorem q3436 : (Jvm.Cond.privateMethod ({ cls := "MasterTreeModel", name := "isUp", desc := "(II)Z" } : Jvm.MethodName)) ∈ lw_tbl := lw_at lw_m14 236 rfl
theorem q3437 : (Jvm.Cond.instanceMethod ({ cls := "MasterTreeModel", name := "isUp", desc := "(II)Z" } : Jvm.MethodName)) ∈ lw_all := lw_g (lw_at lw_m14 237 rfl) rfl
theorem q3438 : (Jvm.Cond.code ({ cls := "MasterTreeModel", name := "isUp", desc := "(II)Z" } : Jvm.MethodName) prog_24_method_14_code (4 : Nat) (Option.some Jvm.ClassFile.FieldType.boolean)) ∈ lw_all := lw_g (lw_at lw_m14 238 rfl) rfl
theorem q3439 : (Jvm.Cond.methodLink "MasterTreeModel" (222 : Nat) ({ cls := "MasterTreeModel", name := "isLive", desc := "(I)Z" } : Jvm.MethodName)) ∈ lw_all := lw_g (lw_at lw_m14 239 rfl) rfl
theorem q3440 : (Jvm.Cond.privateMethod ({ cls := "MasterTreeModel", name := "isLive", desc := "(I)Z" } : Jvm.MethodName)) ∈ lw_tbl := lw_at lw_m15 0 rfl
theorem q3441 : (Jvm.Cond.instanceMethod ({ cls := "MasterTreeModel", name := "isLive", desc := "(I)Z" } : Jvm.MethodName)) ∈ lw_all := lw_g (lw_at lw_m15 1 rfl) rfl
theorem q3442 : (Jvm.Cond.code ({ cls := "MasterTreeModel", name := "isLive", desc := "(I)Z" } : Jvm.MethodName) prog_24_method_16_code (2 : Nat) (Option.some Jvm.ClassFile.FieldType.boolean)) ∈ lw_all := lw_g (lw_at lw_m15 2 rfl) rfl
theorem q3443 : (Jvm.Cond.methodLink "MasterTreeModel" (268 : Nat) ({ cls := "MasterTreeModel", name := "isClass", desc := "(I)Z" } : Jvm.MethodName)) ∈ lw_all := lw_g (lw_at lw_m15 3 rfl) rfl
theorem q3444 : (Jvm.Cond.privateMethod ({ cls := "MasterTreeModel", name := "isClass", desc := "(I)Z" } : Jvm.MethodName)) ∈ lw_tbl := lw_at lw_m15 4 rfl
theorem q3445 : (Jvm.Cond.instanceMethod ({ cls := "MasterTreeModel", name := "isClass", desc := "(I)Z" } : Jvm.MethodName)) ∈ lw_all := lw_g (lw_at lw_m15 5 rfl) rfl
theorem q3446 : (Jvm.Cond.code ({ cls := "MasterTreeModel", name := "isClass", desc := "(I)Z" } : Jvm.MethodName) prog_24_method_7_code (2 : Nat) (Option.some Jvm.ClassFile.FieldType.boolean)) ∈ lw_all := lw_g (lw_at lw_m15 6 rfl) rfl
theorem q3447 : (Jvm.Cond.methodLink "MasterTreeModel" (271 : Nat) ({ cls := "MasterTreeModel", name := "isFull", desc := "()Z" } : Jvm.MethodName)) ∈ lw_all := lw_g (lw_at lw_m15 7 rfl) rfl
theorem q3448 : (Jvm.Cond.privateMethod ({ cls := "MasterTreeModel", name := "isFull", desc := "()Z" } : Jvm.MethodName)) ∈ lw_tbl := lw_at lw_m15 8 rfl
theorem q3449 : (Jvm.Cond.instanceMethod ({ cls := "MasterTreeModel", name := "isFull", desc := "()Z" } : Jvm.MethodName)) ∈ lw_all := lw_g (lw_at lw_m15 9 rfl) rfl
theorem q3450 : (Jvm.Cond.code ({ cls := "MasterTreeModel", name := "isFull", desc := "()Z" } : Jvm.MethodName) prog_24_method_29_code (1 : Nat) (Option.some Jvm.ClassFile.FieldType.boolean)) ∈ lw_all := lw_g (lw_at lw_m15 10 rfl) rfl
theorem q3451 : (Jvm.Cond.methodLink "MasterTreeModel" (275 : Nat) ({ cls := "MasterTreeModel", name := "mayWrite", desc := "(II)Z" } : Jvm.MethodName)) ∈ lw_all := lw_g (lw_at lw_m15 11 rfl) rfl
theorem q3452 : (Jvm.Cond.privateMethod ({ cls := "MasterTreeModel", name := "mayWrite", desc := "(II)Z" } : Jvm.MethodName)) ∈ lw_tbl := lw_at lw_m15 12 rfl
theorem q3453 : (Jvm.Cond.instanceMethod ({ cls := "MasterTreeModel", name := "mayWrite", desc := "(II)Z" } : Jvm.MethodName)) ∈ lw_all := lw_g (lw_at lw_m15 13 rfl) rfl
theorem q3454 : (Jvm.Cond.code ({ cls := "MasterTreeModel", name := "mayWrite", desc := "(II)Z" } : Jvm.MethodName) prog_24_method_27_code (3 : Nat) (Option.some Jvm.ClassFile.FieldType.boolean)) ∈ lw_all := lw_g (lw_at lw_m15 14 rfl) rfl
theorem q3455 : (Jvm.Cond.methodLink "MasterTreeModel" (243 : Nat) ({ cls := "MasterTreeModel", name := "mayDo", desc := "(III)Z" } : Jvm.MethodName)) ∈ lw_all := lw_g (lw_at lw_m15 15 rfl) rfl
theorem q3456 : (Jvm.Cond.privateMethod ({ cls := "MasterTreeModel", name := "mayDo", desc := "(III)Z" } : Jvm.MethodName)) ∈ lw_tbl := lw_at lw_m15 16 rfl
theorem q3457 : (Jvm.Cond.instanceMethod ({ cls := "MasterTreeModel", name := "mayDo", desc := "(III)Z" } : Jvm.MethodName)) ∈ lw_all := lw_g (lw_at lw_m15 17 rfl) rfl
theorem q3458 : (Jvm.Cond.code ({ cls := "MasterTreeModel", name := "mayDo", desc := "(III)Z" } : Jvm.MethodName) prog_24_method_26_code (7 : Nat) (Option.some Jvm.ClassFile.FieldType.boolean)) ∈ lw_all := lw_g (lw_at lw_m15 18 rfl) rfl
theorem q3459 : (Jvm.Cond.methodLink "MasterTreeModel" (239 : Nat) ({ cls := "MasterTreeModel", name := "decides", desc := "(IIII)I" } : Jvm.MethodName)) ∈ lw_all := lw_g (lw_at lw_m15 19 rfl) rfl
theorem q3460 : (Jvm.Cond.privateMethod ({ cls := "MasterTreeModel", name := "decides", desc := "(IIII)I" } : Jvm.MethodName)) ∈ lw_tbl := lw_at lw_m15 20 rfl
theorem q3461 : (Jvm.Cond.instanceMethod ({ cls := "MasterTreeModel", name := "decides", desc := "(IIII)I" } : Jvm.MethodName)) ∈ lw_all := lw_g (lw_at lw_m15 21 rfl) rfl
theorem q3462 : (Jvm.Cond.code ({ cls := "MasterTreeModel", name := "decides", desc := "(IIII)I" } : Jvm.MethodName) prog_24_method_25_code (12 : Nat) (Option.some Jvm.ClassFile.FieldType.int)) ∈ lw_all := lw_g (lw_at lw_m15 22 rfl) rfl
theorem q3463 : (Jvm.Cond.methodLink "MasterTreeModel" (236 : Nat) ({ cls := "MasterTreeModel", name := "applies", desc := "(II)Z" } : Jvm.MethodName)) ∈ lw_all := lw_g (lw_at lw_m15 23 rfl) rfl
theorem q3464 : (Jvm.Cond.privateMethod ({ cls := "MasterTreeModel", name := "applies", desc := "(II)Z" } : Jvm.MethodName)) ∈ lw_tbl := lw_at lw_m15 24 rfl
theorem q3465 : (Jvm.Cond.instanceMethod ({ cls := "MasterTreeModel", name := "applies", desc := "(II)Z" } : Jvm.MethodName)) ∈ lw_all := lw_g (lw_at lw_m15 25 rfl) rfl
theorem q3466 : (Jvm.Cond.code ({ cls := "MasterTreeModel", name := "applies", desc := "(II)Z" } : Jvm.MethodName) prog_24_method_24_code (3 : Nat) (Option.some Jvm.ClassFile.FieldType.boolean)) ∈ lw_all := lw_g (lw_at lw_m15 26 rfl) rfl
theorem q3467 : (Jvm.Cond.methodLink "MasterTreeModel" (233 : Nat) ({ cls := "MasterTreeModel", name := "hasMatch", desc := "(III)Z" } : Jvm.MethodName)) ∈ lw_all := lw_g (lw_at lw_m15 27 rfl) rfl
theorem q3468 : (Jvm.Cond.privateMethod ({ cls := "MasterTreeModel", name := "hasMatch", desc := "(III)Z" } : Jvm.MethodName)) ∈ lw_tbl := lw_at lw_m15 28 rfl
theorem q3469 : (Jvm.Cond.instanceMethod ({ cls := "MasterTreeModel", name := "hasMatch", desc := "(III)Z" } : Jvm.MethodName)) ∈ lw_all := lw_g (lw_at lw_m15 29 rfl) rfl
theorem q3470 : (Jvm.Cond.code ({ cls := "MasterTreeModel", name := "hasMatch", desc := "(III)Z" } : Jvm.MethodName) prog_24_method_20_code (6 : Nat) (Option.some Jvm.ClassFile.FieldType.boolean)) ∈ lw_all := lw_g (lw_at lw_m15 30 rfl) rfl
theorem q3471 : (Jvm.Cond.methodLink "MasterTreeModel" (278 : Nat) ({ cls := "MasterTreeModel", name := "isNamed", desc := "(III)Z" } : Jvm.MethodName)) ∈ lw_all := lw_g (lw_at lw_m15 31 rfl) rfl
theorem q3472 : (Jvm.Cond.privateMethod ({ cls := "MasterTreeModel", name := "isNamed", desc := "(III)Z" } : Jvm.MethodName)) ∈ lw_tbl := lw_at lw_m15 32 rfl
theorem q3473 : (Jvm.Cond.instanceMethod ({ cls := "MasterTreeModel", name := "isNamed", desc := "(III)Z" } : Jvm.MethodName)) ∈ lw_all := lw_g (lw_at lw_m15 33 rfl) rfl
theorem q3474 : (Jvm.Cond.code ({ cls := "MasterTreeModel", name := "isNamed", desc := "(III)Z" } : Jvm.MethodName) prog_24_method_21_code (6 : Nat) (Option.some Jvm.ClassFile.FieldType.boolean)) ∈ lw_all := lw_g (lw_at lw_m15 34 rfl) rfl
theorem q3475 : (Jvm.Cond.methodLink "MasterTreeModel" (281 : Nat) ({ cls := "MasterTreeModel", name := "isDrafted", desc := "(I)Z" } : Jvm.MethodName)) ∈ lw_all := lw_g (lw_at lw_m15 35 rfl) rfl
theorem q3476 : (Jvm.Cond.privateMethod ({ cls := "MasterTreeModel", name := "isDrafted", desc := "(I)Z" } : Jvm.MethodName)) ∈ lw_tbl := lw_at lw_m15 36 rfl
theorem q3477 : (Jvm.Cond.instanceMethod ({ cls := "MasterTreeModel", name := "isDrafted", desc := "(I)Z" } : Jvm.MethodName)) ∈ lw_all := lw_g (lw_at lw_m15 37 rfl) rfl
theorem q3478 : (Jvm.Cond.code ({ cls := "MasterTreeModel", name := "isDrafted", desc := "(I)Z" } : Jvm.MethodName) prog_24_method_35_code (7 : Nat) (Option.some Jvm.ClassFile.FieldType.boolean)) ∈ lw_all := lw_g (lw_at lw_m15 38 rfl) rfl
theorem q3479 : (Jvm.Cond.methodLink "MasterTreeModel" (259 : Nat) ({ cls := "MasterTreeModel", name := "allowedBy", desc := "(I)I" } : Jvm.MethodName)) ∈ lw_all := lw_g (lw_at lw_m15 39 rfl) rfl
theorem q3480 : (Jvm.Cond.privateMethod ({ cls := "MasterTreeModel", name := "allowedBy", desc := "(I)I" } : Jvm.MethodName)) ∈ lw_tbl := lw_at lw_m15 40 rfl
theorem q3481 : (Jvm.Cond.instanceMethod ({ cls := "MasterTreeModel", name := "allowedBy", desc := "(I)I" } : Jvm.MethodName)) ∈ lw_all := lw_g (lw_at lw_m15 41 rfl) rfl
theorem q3482 : (Jvm.Cond.code ({ cls := "MasterTreeModel", name := "allowedBy", desc := "(I)I" } : Jvm.MethodName) prog_24_method_23_code (4 : Nat) (Option.some Jvm.ClassFile.FieldType.int)) ∈ lw_all := lw_g (lw_at lw_m15 42 rfl) rfl
theorem q3483 : (Jvm.Cond.methodLink "MasterTreeModel" (262 : Nat) ({ cls := "MasterTreeModel", name := "requiredBy", desc := "(I)I" } : Jvm.MethodName)) ∈ lw_all := lw_g (lw_at lw_m15 43 rfl) rfl
theorem q3484 : (Jvm.Cond.privateMethod ({ cls := "MasterTreeModel", name := "requiredBy", desc := "(I)I" } : Jvm.MethodName)) ∈ lw_tbl := lw_at lw_m15 44 rfl
theorem q3485 : (Jvm.Cond.instanceMethod ({ cls := "MasterTreeModel", name := "requiredBy", desc := "(I)I" } : Jvm.MethodName)) ∈ lw_all := lw_g (lw_at lw_m15 45 rfl) rfl
theorem q3486 : (Jvm.Cond.code ({ cls := "MasterTreeModel", name := "requiredBy", desc := "(I)I" } : Jvm.MethodName) prog_24_method_22_code (4 : Nat) (Option.some Jvm.ClassFile.FieldType.int)) ∈ lw_all := lw_g (lw_at lw_m15 46 rfl) rfl
theorem q3487 : (Jvm.Cond.methodLink "MasterTreeModel" (284 : Nat) ({ cls := "MasterTreeModel", name := "makes", desc := "(IIIIII)I" } : Jvm.MethodName)) ∈ lw_all := lw_g (lw_at lw_m15 47 rfl) rfl
theorem q3488 : (Jvm.Cond.privateMethod ({ cls := "MasterTreeModel", name := "makes", desc := "(IIIIII)I" } : Jvm.MethodName)) ∈ lw_tbl := lw_at lw_m15 48 rfl
theorem q3489 : (Jvm.Cond.instanceMethod ({ cls := "MasterTreeModel", name := "makes", desc := "(IIIIII)I" } : Jvm.MethodName)) ∈ lw_all := lw_g (lw_at lw_m15 49 rfl) rfl
theorem q3490 : (Jvm.Cond.code ({ cls := "MasterTreeModel", name := "makes", desc := "(IIIIII)I" } : Jvm.MethodName) prog_24_method_28_code (10 : Nat) (Option.some Jvm.ClassFile.FieldType.int)) ∈ lw_all := lw_g (lw_at lw_m15 50 rfl) rfl
theorem q3491 : (Jvm.Cond.methodLink "MasterTreeLaw" (173 : Nat) ({ cls := "MasterTreeModel", name := "addValue", desc := "(IIII)I" } : Jvm.MethodName)) ∈ lw_all := lw_g (lw_at lw_m15 51 rfl) rfl
theorem q3492 : (Jvm.Cond.instanceMethod ({ cls := "MasterTreeModel", name := "addValue", desc := "(IIII)I" } : Jvm.MethodName)) ∈ lw_all := lw_g (lw_at lw_m15 52 rfl) rfl
theorem q3493 : (Jvm.Cond.selects "MasterTreeModel" ({ cls := "MasterTreeModel", name := "addValue", desc := "(IIII)I" } : Jvm.MethodName) ({ cls := "MasterTreeModel", name := "addValue", desc := "(IIII)I" } : Jvm.MethodName)) ∈ lw_all := lw_g (lw_at lw_m15 53 rfl) rfl
theorem q3494 : (Jvm.Cond.code ({ cls := "MasterTreeModel", name := "addValue", desc := "(IIII)I" } : Jvm.MethodName) prog_24_method_39_code (6 : Nat) (Option.some Jvm.ClassFile.FieldType.int)) ∈ lw_all := lw_g (lw_at lw_m15 54 rfl) rfl
theorem q3495 : (Jvm.Cond.methodLink "MasterTreeModel" (294 : Nat) ({ cls := "MasterTreeModel", name := "refuses", desc := "(IIII)I" } : Jvm.MethodName)) ∈ lw_all := lw_g (lw_at lw_m15 55 rfl) rfl
theorem q3496 : (Jvm.Cond.privateMethod ({ cls := "MasterTreeModel", name := "refuses", desc := "(IIII)I" } : Jvm.MethodName)) ∈ lw_tbl := lw_at lw_m15 56 rfl
theorem q3497 : (Jvm.Cond.instanceMethod ({ cls := "MasterTreeModel", name := "refuses", desc := "(IIII)I" } : Jvm.MethodName)) ∈ lw_all := lw_g (lw_at lw_m15 57 rfl) rfl
theorem q3498 : (Jvm.Cond.code ({ cls := "MasterTreeModel", name := "refuses", desc := "(IIII)I" } : Jvm.MethodName) prog_24_method_37_code (5 : Nat) (Option.some Jvm.ClassFile.FieldType.int)) ∈ lw_all := lw_g (lw_at lw_m15 58 rfl) rfl
theorem q3499 : (Jvm.Cond.methodLink "MasterTreeModel" (291 : Nat) ({ cls := "MasterTreeModel", name := "countOf", desc := "(II)I" } : Jvm.MethodName)) ∈ lw_all := lw_g (lw_at lw_m15 59 rfl) rfl
theorem q3500 : (Jvm.Cond.privateMethod ({ cls := "MasterTreeModel", name := "countOf", desc := "(II)I" } : Jvm.MethodName)) ∈ lw_tbl := lw_at lw_m15 60 rfl
theorem q3501 : (Jvm.Cond.instanceMethod ({ cls := "MasterTreeModel", name := "countOf", desc := "(II)I" } : Jvm.MethodName)) ∈ lw_all := lw_g (lw_at lw_m15 61 rfl) rfl
theorem q3502 : (Jvm.Cond.code ({ cls := "MasterTreeModel", name := "countOf", desc := "(II)I" } : Jvm.MethodName) prog_24_method_19_code (5 : Nat) (Option.some Jvm.ClassFile.FieldType.int)) ∈ lw_all := lw_g (lw_at lw_m15 62 rfl) rfl
theorem q3503 : (Jvm.Cond.methodLink "MasterTreeModel" (297 : Nat) ({ cls := "MasterTreeModel", name := "valuesBehind", desc := "(III)I" } : Jvm.MethodName)) ∈ lw_all := lw_g (lw_at lw_m15 63 rfl) rfl
theorem q3504 : (Jvm.Cond.privateMethod ({ cls := "MasterTreeModel", name := "valuesBehind", desc := "(III)I" } : Jvm.MethodName)) ∈ lw_tbl := lw_at lw_m15 64 rfl
theorem q3505 : (Jvm.Cond.instanceMethod ({ cls := "MasterTreeModel", name := "valuesBehind", desc := "(III)I" } : Jvm.MethodName)) ∈ lw_all := lw_g (lw_at lw_m15 65 rfl) rfl
theorem q3506 : (Jvm.Cond.code ({ cls := "MasterTreeModel", name := "valuesBehind", desc := "(III)I" } : Jvm.MethodName) prog_24_method_38_code (4 : Nat) (Option.some Jvm.ClassFile.FieldType.int)) ∈ lw_all := lw_g (lw_at lw_m15 66 rfl) rfl
theorem q3507 : (Jvm.Cond.methodLink "MasterTreeLaw" (176 : Nat) ({ cls := "MasterTreeModel", name := "removeValue", desc := "(IIII)I" } : Jvm.MethodName)) ∈ lw_all := lw_g (lw_at lw_m15 67 rfl) rfl
theorem q3508 : (Jvm.Cond.instanceMethod ({ cls := "MasterTreeModel", name := "removeValue", desc := "(IIII)I" } : Jvm.MethodName)) ∈ lw_all := lw_g (lw_at lw_m15 68 rfl) rfl
theorem q3509 : (Jvm.Cond.selects "MasterTreeModel" ({ cls := "MasterTreeModel", name := "removeValue", desc := "(IIII)I" } : Jvm.MethodName) ({ cls := "MasterTreeModel", name := "removeValue", desc := "(IIII)I" } : Jvm.MethodName)) ∈ lw_all := lw_g (lw_at lw_m15 69 rfl) rfl
theorem q3510 : (Jvm.Cond.code ({ cls := "MasterTreeModel", name := "removeValue", desc := "(IIII)I" } : Jvm.MethodName) prog_24_method_40_code (7 : Nat) (Option.some Jvm.ClassFile.FieldType.int)) ∈ lw_all := lw_g (lw_at lw_m15 70 rfl) rfl
theorem q3511 : (Jvm.Cond.methodLink "MasterTreeLaw" (179 : Nat) ({ cls := "MasterTreeModel", name := "replace", desc := "(IIII)I" } : Jvm.MethodName)) ∈ lw_all := lw_g (lw_at lw_m15 71 rfl) rfl
theorem q3512 : (Jvm.Cond.instanceMethod ({ cls := "MasterTreeModel", name := "replace", desc := "(IIII)I" } : Jvm.MethodName)) ∈ lw_all := lw_g (lw_at lw_m15 72 rfl) rfl
theorem q3513 : (Jvm.Cond.selects "MasterTreeModel" ({ cls := "MasterTreeModel", name := "replace", desc := "(IIII)I" } : Jvm.MethodName) ({ cls := "MasterTreeModel", name := "replace", desc := "(IIII)I" } : Jvm.MethodName)) ∈ lw_all := lw_g (lw_at lw_m15 73 rfl) rfl
theorem q3514 : (Jvm.Cond.code ({ cls := "MasterTreeModel", name := "replace", desc := "(IIII)I" } : Jvm.MethodName) prog_24_method_41_code (7 : Nat) (Option.some Jvm.ClassFile.FieldType.int)) ∈ lw_all := lw_g (lw_at lw_m15 74 rfl) rfl
theorem q3515 : (Jvm.Cond.methodLink "MasterTreeLaw" (182 : Nat) ({ cls := "MasterTreeModel", name := "rename", desc := "(III)I" } : Jvm.MethodName)) ∈ lw_all := lw_g (lw_at lw_m15 75 rfl) rfl
theorem q3516 : (Jvm.Cond.instanceMethod ({ cls := "MasterTreeModel", name := "rename", desc := "(III)I" } : Jvm.MethodName)) ∈ lw_all := lw_g (lw_at lw_m15 76 rfl) rfl
theorem q3517 : (Jvm.Cond.selects "MasterTreeModel" ({ cls := "MasterTreeModel", name := "rename", desc := "(III)I" } : Jvm.MethodName) ({ cls := "MasterTreeModel", name := "rename", desc := "(III)I" } : Jvm.MethodName)) ∈ lw_all := lw_g (lw_at lw_m15 77 rfl) rfl
theorem q3518 : (Jvm.Cond.code ({ cls := "MasterTreeModel", name := "rename", desc := "(III)I" } : Jvm.MethodName) prog_24_method_42_code (6 : Nat) (Option.some Jvm.ClassFile.FieldType.int)) ∈ lw_all := lw_g (lw_at lw_m15 78 rfl) rfl
theorem q3519 : (Jvm.Cond.methodLink "MasterTreeLaw" (185 : Nat) ({ cls := "MasterTreeModel", name := "move", desc := "(III)I" } : Jvm.MethodName)) ∈ lw_all := lw_g (lw_at lw_m15 79 rfl) rfl
theorem q3520 : (Jvm.Cond.instanceMethod ({ cls := "MasterTreeModel", name := "move", desc := "(III)I" } : Jvm.MethodName)) ∈ lw_all := lw_g (lw_at lw_m15 80 rfl) rfl
theorem q3521 : (Jvm.Cond.selects "MasterTreeModel" ({ cls := "MasterTreeModel", name := "move", desc := "(III)I" } : Jvm.MethodName) ({ cls := "MasterTreeModel", name := "move", desc := "(III)I" } : Jvm.MethodName)) ∈ lw_all := lw_g (lw_at lw_m15 81 rfl) rfl
theorem q3522 : (Jvm.Cond.code ({ cls := "MasterTreeModel", name := "move", desc := "(III)I" } : Jvm.MethodName) prog_24_method_43_code (6 : Nat) (Option.some Jvm.ClassFile.FieldType.int)) ∈ lw_all := lw_g (lw_at lw_m15 82 rfl) rfl
theorem q3523 : (Jvm.Cond.methodLink "MasterTreeLaw" (188 : Nat) ({ cls := "MasterTreeModel", name := "delete", desc := "(II)I" } : Jvm.MethodName)) ∈ lw_all := lw_g (lw_at lw_m15 83 rfl) rfl
theorem q3524 : (Jvm.Cond.instanceMethod ({ cls := "MasterTreeModel", name := "delete", desc := "(II)I" } : Jvm.MethodName)) ∈ lw_all := lw_g (lw_at lw_m15 84 rfl) rfl
theorem q3525 : (Jvm.Cond.selects "MasterTreeModel" ({ cls := "MasterTreeModel", name := "delete", desc := "(II)I" } : Jvm.MethodName) ({ cls := "MasterTreeModel", name := "delete", desc := "(II)I" } : Jvm.MethodName)) ∈ lw_all := lw_g (lw_at lw_m15 85 rfl) rfl
theorem q3526 : (Jvm.Cond.code ({ cls := "MasterTreeModel", name := "delete", desc := "(II)I" } : Jvm.MethodName) prog_24_method_45_code (4 : Nat) (Option.some Jvm.ClassFile.FieldType.int)) ∈ lw_all := lw_g (lw_at lw_m15 86 rfl) rfl
theorem q3527 : (Jvm.Cond.methodLink "MasterTreeModel" (301 : Nat) ({ cls := "MasterTreeModel", name := "isEmpty", desc := "(I)Z" } : Jvm.MethodName)) ∈ lw_all := lw_g (lw_at lw_m15 87 rfl) rfl
theorem q3528 : (Jvm.Cond.privateMethod ({ cls := "MasterTreeModel", name := "isEmpty", desc := "(I)Z" } : Jvm.MethodName)) ∈ lw_tbl := lw_at lw_m15 88 rfl
theorem q3529 : (Jvm.Cond.instanceMethod ({ cls := "MasterTreeModel", name := "isEmpty", desc := "(I)Z" } : Jvm.MethodName)) ∈ lw_all := lw_g (lw_at lw_m15 89 rfl) rfl
theorem q3530 : (Jvm.Cond.code ({ cls := "MasterTreeModel", name := "isEmpty", desc := "(I)Z" } : Jvm.MethodName) prog_24_method_44_code (4 : Nat) (Option.some Jvm.ClassFile.FieldType.boolean)) ∈ lw_all := lw_g (lw_at lw_m15 90 rfl) rfl
theorem q3531 : (Jvm.Cond.methodLink "MasterTreeModel" (304 : Nat) ({ cls := "MasterTreeModel", name := "marksOf", desc := "(I)I" } : Jvm.MethodName)) ∈ lw_all := lw_g (lw_at lw_m15 91 rfl) rfl
theorem q3532 : (Jvm.Cond.privateMethod ({ cls := "MasterTreeModel", name := "marksOf", desc := "(I)I" } : Jvm.MethodName)) ∈ lw_tbl := lw_at lw_m15 92 rfl
theorem q3533 : (Jvm.Cond.instanceMethod ({ cls := "MasterTreeModel", name := "marksOf", desc := "(I)I" } : Jvm.MethodName)) ∈ lw_all := lw_g (lw_at lw_m15 93 rfl) rfl
theorem q3534 : (Jvm.Cond.code ({ cls := "MasterTreeModel", name := "marksOf", desc := "(I)I" } : Jvm.MethodName) prog_24_method_52_code (4 : Nat) (Option.some Jvm.ClassFile.FieldType.int)) ∈ lw_all := lw_g (lw_at lw_m15 94 rfl) rfl
theorem q3535 : (Jvm.Cond.methodLink "MasterTreeModel" (313 : Nat) ({ cls := "MasterTreeModel", name := "isMarked", desc := "(II)Z" } : Jvm.MethodName)) ∈ lw_all := lw_g (lw_at lw_m15 95 rfl) rfl
theorem q3536 : (Jvm.Cond.privateMethod ({ cls := "MasterTreeModel", name := "isMarked", desc := "(II)Z" } : Jvm.MethodName)) ∈ lw_tbl := lw_at lw_m15 96 rfl
theorem q3537 : (Jvm.Cond.instanceMethod ({ cls := "MasterTreeModel", name := "isMarked", desc := "(II)Z" } : Jvm.MethodName)) ∈ lw_all := lw_g (lw_at lw_m15 97 rfl) rfl
theorem q3538 : (Jvm.Cond.code ({ cls := "MasterTreeModel", name := "isMarked", desc := "(II)Z" } : Jvm.MethodName) prog_24_method_51_code (3 : Nat) (Option.some Jvm.ClassFile.FieldType.boolean)) ∈ lw_all := lw_g (lw_at lw_m15 98 rfl) rfl
theorem q3539 : (Jvm.Cond.methodLink "MasterTreeModel" (310 : Nat) ({ cls := "MasterTreeModel", name := "knowsDeleted", desc := "(III)Z" } : Jvm.MethodName)) ∈ lw_all := lw_g (lw_at lw_m15 99 rfl) rfl
theorem q3540 : (Jvm.Cond.privateMethod ({ cls := "MasterTreeModel", name := "knowsDeleted", desc := "(III)Z" } : Jvm.MethodName)) ∈ lw_tbl := lw_at lw_m15 100 rfl
theorem q3541 : (Jvm.Cond.instanceMethod ({ cls := "MasterTreeModel", name := "knowsDeleted", desc := "(III)Z" } : Jvm.MethodName)) ∈ lw_all := lw_g (lw_at lw_m15 101 rfl) rfl
theorem q3542 : (Jvm.Cond.code ({ cls := "MasterTreeModel", name := "knowsDeleted", desc := "(III)Z" } : Jvm.MethodName) prog_24_method_50_code (6 : Nat) (Option.some Jvm.ClassFile.FieldType.boolean)) ∈ lw_all := lw_g (lw_at lw_m15 102 rfl) rfl
theorem q3543 : (Jvm.Cond.methodLink "MasterTreeLaw" (191 : Nat) ({ cls := "MasterTreeModel", name := "link", desc := "(III)I" } : Jvm.MethodName)) ∈ lw_all := lw_g (lw_at lw_m15 103 rfl) rfl
theorem q3544 : (Jvm.Cond.instanceMethod ({ cls := "MasterTreeModel", name := "link", desc := "(III)I" } : Jvm.MethodName)) ∈ lw_all := lw_g (lw_at lw_m15 104 rfl) rfl
theorem q3545 : (Jvm.Cond.selects "MasterTreeModel" ({ cls := "MasterTreeModel", name := "link", desc := "(III)I" } : Jvm.MethodName) ({ cls := "MasterTreeModel", name := "link", desc := "(III)I" } : Jvm.MethodName)) ∈ lw_all := lw_g (lw_at lw_m15 105 rfl) rfl
theorem q3546 : (Jvm.Cond.code ({ cls := "MasterTreeModel", name := "link", desc := "(III)I" } : Jvm.MethodName) prog_24_method_46_code (7 : Nat) (Option.some Jvm.ClassFile.FieldType.int)) ∈ lw_all := lw_g (lw_at lw_m15 106 rfl) rfl
theorem q3547 : (Jvm.Cond.methodLink "MasterTreeLaw" (195 : Nat) ({ cls := "MasterTreeModel", name := "rule", desc := "(IIIIII)I" } : Jvm.MethodName)) ∈ lw_all := lw_g (lw_at lw_m15 107 rfl) rfl
theorem q3548 : (Jvm.Cond.instanceMethod ({ cls := "MasterTreeModel", name := "rule", desc := "(IIIIII)I" } : Jvm.MethodName)) ∈ lw_all := lw_g (lw_at lw_m15 108 rfl) rfl
theorem q3549 : (Jvm.Cond.selects "MasterTreeModel" ({ cls := "MasterTreeModel", name := "rule", desc := "(IIIIII)I" } : Jvm.MethodName) ({ cls := "MasterTreeModel", name := "rule", desc := "(IIIIII)I" } : Jvm.MethodName)) ∈ lw_all := lw_g (lw_at lw_m15 109 rfl) rfl
theorem q3550 : (Jvm.Cond.code ({ cls := "MasterTreeModel", name := "rule", desc := "(IIIIII)I" } : Jvm.MethodName) prog_24_method_48_code (10 : Nat) (Option.some Jvm.ClassFile.FieldType.int)) ∈ lw_all := lw_g (lw_at lw_m15 110 rfl) rfl
theorem q3551 : (Jvm.Cond.methodLink "MasterTreeModel" (307 : Nat) ({ cls := "MasterTreeModel", name := "subjectOf", desc := "(I)I" } : Jvm.MethodName)) ∈ lw_all := lw_g (lw_at lw_m15 111 rfl) rfl
theorem q3552 : (Jvm.Cond.privateMethod ({ cls := "MasterTreeModel", name := "subjectOf", desc := "(I)I" } : Jvm.MethodName)) ∈ lw_tbl := lw_at lw_m15 112 rfl
theorem q3553 : (Jvm.Cond.instanceMethod ({ cls := "MasterTreeModel", name := "subjectOf", desc := "(I)I" } : Jvm.MethodName)) ∈ lw_all := lw_g (lw_at lw_m15 113 rfl) rfl
theorem q3554 : (Jvm.Cond.code ({ cls := "MasterTreeModel", name := "subjectOf", desc := "(I)I" } : Jvm.MethodName) prog_24_method_47_code (2 : Nat) (Option.some Jvm.ClassFile.FieldType.int)) ∈ lw_all := lw_g (lw_at lw_m15 114 rfl) rfl
theorem q3555 : (Jvm.Cond.methodLink "MasterTreeLaw" (198 : Nat) ({ cls := "MasterTreeModel", name := "exchange", desc := "(III)I" } : Jvm.MethodName)) ∈ lw_all := lw_g (lw_at lw_m15 115 rfl) rfl
theorem q3556 : (Jvm.Cond.instanceMethod ({ cls := "MasterTreeModel", name := "exchange", desc := "(III)I" } : Jvm.MethodName)) ∈ lw_all := lw_g (lw_at lw_m15 116 rfl) rfl
theorem q3557 : (Jvm.Cond.selects "MasterTreeModel" ({ cls := "MasterTreeModel", name := "exchange", desc := "(III)I" } : Jvm.MethodName) ({ cls := "MasterTreeModel", name := "exchange", desc := "(III)I" } : Jvm.MethodName)) ∈ lw_all := lw_g (lw_at lw_m15 117 rfl) rfl
theorem q3558 : (Jvm.Cond.code ({ cls := "MasterTreeModel", name := "exchange", desc := "(III)I" } : Jvm.MethodName) prog_24_method_49_code (7 : Nat) (Option.some Jvm.ClassFile.FieldType.int)) ∈ lw_all := lw_g (lw_at lw_m15 118 rfl) rfl
theorem q3559 : (Jvm.Cond.methodLink "MasterTreeLaw" (202 : Nat) ({ cls := "MasterTreeModel", name := "sweep", desc := "(I)I" } : Jvm.MethodName)) ∈ lw_all := lw_g (lw_at lw_m15 119 rfl) rfl
theorem q3560 : (Jvm.Cond.instanceMethod ({ cls := "MasterTreeModel", name := "sweep", desc := "(I)I" } : Jvm.MethodName)) ∈ lw_all := lw_g (lw_at lw_m15 120 rfl) rfl
theorem q3561 : (Jvm.Cond.selects "MasterTreeModel" ({ cls := "MasterTreeModel", name := "sweep", desc := "(I)I" } : Jvm.MethodName) ({ cls := "MasterTreeModel", name := "sweep", desc := "(I)I" } : Jvm.MethodName)) ∈ lw_all := lw_g (lw_at lw_m15 121 rfl) rfl
theorem q3562 : (Jvm.Cond.code ({ cls := "MasterTreeModel", name := "sweep", desc := "(I)I" } : Jvm.MethodName) prog_24_method_53_code (5 : Nat) (Option.some Jvm.ClassFile.FieldType.int)) ∈ lw_all := lw_g (lw_at lw_m15 122 rfl) rfl
theorem q3563 : (Jvm.Cond.methodLink "MasterTreeLaw" (205 : Nat) ({ cls := "MasterTreeModel", name := "equal", desc := "(II)I" } : Jvm.MethodName)) ∈ lw_all := lw_g (lw_at lw_m15 123 rfl) rfl
theorem q3564 : (Jvm.Cond.instanceMethod ({ cls := "MasterTreeModel", name := "equal", desc := "(II)I" } : Jvm.MethodName)) ∈ lw_all := lw_g (lw_at lw_m15 124 rfl) rfl
theorem q3565 : (Jvm.Cond.selects "MasterTreeModel" ({ cls := "MasterTreeModel", name := "equal", desc := "(II)I" } : Jvm.MethodName) ({ cls := "MasterTreeModel", name := "equal", desc := "(II)I" } : Jvm.MethodName)) ∈ lw_all := lw_g (lw_at lw_m15 125 rfl) rfl
theorem q3566 : (Jvm.Cond.code ({ cls := "MasterTreeModel", name := "equal", desc := "(II)I" } : Jvm.MethodName) prog_24_method_56_code (3 : Nat) (Option.some Jvm.ClassFile.FieldType.int)) ∈ lw_all := lw_g (lw_at lw_m15 126 rfl) rfl
theorem q3567 : (Jvm.Cond.methodLink "MasterTreeModel" (322 : Nat) ({ cls := "MasterTreeModel", name := "isCrowded", desc := "()Z" } : Jvm.MethodName)) ∈ lw_all := lw_g (lw_at lw_m15 127 rfl) rfl
theorem q3568 : (Jvm.Cond.privateMethod ({ cls := "MasterTreeModel", name := "isCrowded", desc := "()Z" } : Jvm.MethodName)) ∈ lw_tbl := lw_at lw_m15 128 rfl
theorem q3569 : (Jvm.Cond.instanceMethod ({ cls := "MasterTreeModel", name := "isCrowded", desc := "()Z" } : Jvm.MethodName)) ∈ lw_all := lw_g (lw_at lw_m15 129 rfl) rfl
theorem q3570 : (Jvm.Cond.code ({ cls := "MasterTreeModel", name := "isCrowded", desc := "()Z" } : Jvm.MethodName) prog_24_method_54_code (1 : Nat) (Option.some Jvm.ClassFile.FieldType.boolean)) ∈ lw_all := lw_g (lw_at lw_m15 130 rfl) rfl
theorem q3571 : (Jvm.Cond.methodLink "MasterTreeModel" (325 : Nat) ({ cls := "MasterTreeModel", name := "puts", desc := "(III)I" } : Jvm.MethodName)) ∈ lw_all := lw_g (lw_at lw_m15 131 rfl) rfl
theorem q3572 : (Jvm.Cond.privateMethod ({ cls := "MasterTreeModel", name := "puts", desc := "(III)I" } : Jvm.MethodName)) ∈ lw_tbl := lw_at lw_m15 132 rfl
theorem q3573 : (Jvm.Cond.instanceMethod ({ cls := "MasterTreeModel", name := "puts", desc := "(III)I" } : Jvm.MethodName)) ∈ lw_all := lw_g (lw_at lw_m15 133 rfl) rfl
theorem q3574 : (Jvm.Cond.code ({ cls := "MasterTreeModel", name := "puts", desc := "(III)I" } : Jvm.MethodName) prog_24_method_55_code (4 : Nat) (Option.some Jvm.ClassFile.FieldType.int)) ∈ lw_all := lw_g (lw_at lw_m15 134 rfl) rfl
theorem q3575 : (Jvm.Cond.methodLink "MasterTreeLaw" (208 : Nat) ({ cls := "MasterTreeModel", name := "atLeast", desc := "(II)I" } : Jvm.MethodName)) ∈ lw_all := lw_g (lw_at lw_m15 135 rfl) rfl
theorem q3576 : (Jvm.Cond.instanceMethod ({ cls := "MasterTreeModel", name := "atLeast", desc := "(II)I" } : Jvm.MethodName)) ∈ lw_all := lw_g (lw_at lw_m15 136 rfl) rfl
theorem q3577 : (Jvm.Cond.selects "MasterTreeModel" ({ cls := "MasterTreeModel", name := "atLeast", desc := "(II)I" } : Jvm.MethodName) ({ cls := "MasterTreeModel", name := "atLeast", desc := "(II)I" } : Jvm.MethodName)) ∈ lw_all := lw_g (lw_at lw_m15 137 rfl) rfl
theorem q3578 : (Jvm.Cond.code ({ cls := "MasterTreeModel", name := "atLeast", desc := "(II)I" } : Jvm.MethodName) prog_24_method_57_code (3 : Nat) (Option.some Jvm.ClassFile.FieldType.int)) ∈ lw_all := lw_g (lw_at lw_m15 138 rfl) rfl
theorem q3579 : (Jvm.Cond.methodLink "MasterTreeLaw" (211 : Nat) ({ cls := "MasterTreeModel", name := "has", desc := "(I)I" } : Jvm.MethodName)) ∈ lw_all := lw_g (lw_at lw_m15 139 rfl) rfl
theorem q3580 : (Jvm.Cond.instanceMethod ({ cls := "MasterTreeModel", name := "has", desc := "(I)I" } : Jvm.MethodName)) ∈ lw_all := lw_g (lw_at lw_m15 140 rfl) rfl
theorem q3581 : (Jvm.Cond.selects "MasterTreeModel" ({ cls := "MasterTreeModel", name := "has", desc := "(I)I" } : Jvm.MethodName) ({ cls := "MasterTreeModel", name := "has", desc := "(I)I" } : Jvm.MethodName)) ∈ lw_all := lw_g (lw_at lw_m15 141 rfl) rfl
theorem q3582 : (Jvm.Cond.code ({ cls := "MasterTreeModel", name := "has", desc := "(I)I" } : Jvm.MethodName) prog_24_method_58_code (2 : Nat) (Option.some Jvm.ClassFile.FieldType.int)) ∈ lw_all := lw_g (lw_at lw_m15 142 rfl) rfl
theorem q3583 : (Jvm.Cond.methodLink "MasterTreeLaw" (214 : Nat) ({ cls := "MasterTreeModel", name := "ofClass", desc := "(I)I" } : Jvm.MethodName)) ∈ lw_all := lw_g (lw_at lw_m15 143 rfl) rfl
theorem q3584 : (Jvm.Cond.instanceMethod ({ cls := "MasterTreeModel", name := "ofClass", desc := "(I)I" } : Jvm.MethodName)) ∈ lw_all := lw_g (lw_at lw_m15 144 rfl) rfl
theorem q3585 : (Jvm.Cond.selects "MasterTreeModel" ({ cls := "MasterTreeModel", name := "ofClass", desc := "(I)I" } : Jvm.MethodName) ({ cls := "MasterTreeModel", name := "ofClass", desc := "(I)I" } : Jvm.MethodName)) ∈ lw_all := lw_g (lw_at lw_m15 145 rfl) rfl
theorem q3586 : (Jvm.Cond.code ({ cls := "MasterTreeModel", name := "ofClass", desc := "(I)I" } : Jvm.MethodName) prog_24_method_59_code (2 : Nat) (Option.some Jvm.ClassFile.FieldType.int)) ∈ lw_all := lw_g (lw_at lw_m15 146 rfl) rfl
theorem q3587 : (Jvm.Cond.methodLink "MasterTreeLaw" (218 : Nat) ({ cls := "MasterTreeModel", name := "combine", desc := "(Z)I" } : Jvm.MethodName)) ∈ lw_all := lw_g (lw_at lw_m15 147 rfl) rfl
theorem q3588 : (Jvm.Cond.instanceMethod ({ cls := "MasterTreeModel", name := "combine", desc := "(Z)I" } : Jvm.MethodName)) ∈ lw_all := lw_g (lw_at lw_m15 148 rfl) rfl
theorem q3589 : (Jvm.Cond.selects "MasterTreeModel" ({ cls := "MasterTreeModel", name := "combine", desc := "(Z)I" } : Jvm.MethodName) ({ cls := "MasterTreeModel", name := "combine", desc := "(Z)I" } : Jvm.MethodName)) ∈ lw_all := lw_g (lw_at lw_m15 149 rfl) rfl
theorem q3590 : (Jvm.Cond.code ({ cls := "MasterTreeModel", name := "combine", desc := "(Z)I" } : Jvm.MethodName) prog_24_method_60_code (2 : Nat) (Option.some Jvm.ClassFile.FieldType.int)) ∈ lw_all := lw_g (lw_at lw_m15 150 rfl) rfl
theorem q3591 : (Jvm.Cond.methodLink "MasterTreeLaw" (222 : Nat) ({ cls := "MasterTreeModel", name := "not", desc := "()I" } : Jvm.MethodName)) ∈ lw_all := lw_g (lw_at lw_m15 151 rfl) rfl
theorem q3592 : (Jvm.Cond.instanceMethod ({ cls := "MasterTreeModel", name := "not", desc := "()I" } : Jvm.MethodName)) ∈ lw_all := lw_g (lw_at lw_m15 152 rfl) rfl
theorem q3593 : (Jvm.Cond.selects "MasterTreeModel" ({ cls := "MasterTreeModel", name := "not", desc := "()I" } : Jvm.MethodName) ({ cls := "MasterTreeModel", name := "not", desc := "()I" } : Jvm.MethodName)) ∈ lw_all := lw_g (lw_at lw_m15 153 rfl) rfl
theorem q3594 : (Jvm.Cond.code ({ cls := "MasterTreeModel", name := "not", desc := "()I" } : Jvm.MethodName) prog_24_method_61_code (1 : Nat) (Option.some Jvm.ClassFile.FieldType.int)) ∈ lw_all := lw_g (lw_at lw_m15 154 rfl) rfl
theorem q3595 : (Jvm.Cond.methodLink "MasterTreeLaw" (226 : Nat) ({ cls := "MasterTreeModel", name := "wipe", desc := "()I" } : Jvm.MethodName)) ∈ lw_all := lw_g (lw_at lw_m15 155 rfl) rfl
theorem q3596 : (Jvm.Cond.instanceMethod ({ cls := "MasterTreeModel", name := "wipe", desc := "()I" } : Jvm.MethodName)) ∈ lw_all := lw_g (lw_at lw_m15 156 rfl) rfl
theorem q3597 : (Jvm.Cond.selects "MasterTreeModel" ({ cls := "MasterTreeModel", name := "wipe", desc := "()I" } : Jvm.MethodName) ({ cls := "MasterTreeModel", name := "wipe", desc := "()I" } : Jvm.MethodName)) ∈ lw_all := lw_g (lw_at lw_m15 157 rfl) rfl
theorem q3598 : (Jvm.Cond.code ({ cls := "MasterTreeModel", name := "wipe", desc := "()I" } : Jvm.MethodName) prog_24_method_62_code (2 : Nat) (Option.some Jvm.ClassFile.FieldType.int)) ∈ lw_all := lw_g (lw_at lw_m15 158 rfl) rfl
theorem q3599 : (Jvm.Cond.methodLink "MasterTreeLaw" (229 : Nat) ({ cls := "MasterTreeModel", name := "search", desc := "(III)I" } : Jvm.MethodName)) ∈ lw_all := lw_g (lw_at lw_m15 159 rfl) rfl
theorem q3600 : (Jvm.Cond.instanceMethod ({ cls := "MasterTreeModel", name := "search", desc := "(III)I" } : Jvm.MethodName)) ∈ lw_all := lw_g (lw_at lw_m15 160 rfl) rfl
theorem q3601 : (Jvm.Cond.selects "MasterTreeModel" ({ cls := "MasterTreeModel", name := "search", desc := "(III)I" } : Jvm.MethodName) ({ cls := "MasterTreeModel", name := "search", desc := "(III)I" } : Jvm.MethodName)) ∈ lw_all := lw_g (lw_at lw_m15 161 rfl) rfl
theorem q3602 : (Jvm.Cond.code ({ cls := "MasterTreeModel", name := "search", desc := "(III)I" } : Jvm.MethodName) prog_24_method_69_code (5 : Nat) (Option.some Jvm.ClassFile.FieldType.int)) ∈ lw_all := lw_g (lw_at lw_m15 162 rfl) rfl
theorem q3603 : (Jvm.Cond.methodLink "MasterTreeModel" (340 : Nat) ({ cls := "MasterTreeModel", name := "refusesSearch", desc := "(III)I" } : Jvm.MethodName)) ∈ lw_all := lw_g (lw_at lw_m15 163 rfl) rfl
theorem q3604 : (Jvm.Cond.privateMethod ({ cls := "MasterTreeModel", name := "refusesSearch", desc := "(III)I" } : Jvm.MethodName)) ∈ lw_tbl := lw_at lw_m15 164 rfl
theorem q3605 : (Jvm.Cond.instanceMethod ({ cls := "MasterTreeModel", name := "refusesSearch", desc := "(III)I" } : Jvm.MethodName)) ∈ lw_all := lw_g (lw_at lw_m15 165 rfl) rfl
theorem q3606 : (Jvm.Cond.code ({ cls := "MasterTreeModel", name := "refusesSearch", desc := "(III)I" } : Jvm.MethodName) prog_24_method_67_code (4 : Nat) (Option.some Jvm.ClassFile.FieldType.int)) ∈ lw_all := lw_g (lw_at lw_m15 166 rfl) rfl
theorem q3607 : (Jvm.Cond.methodLink "MasterTreeModel" (346 : Nat) ({ cls := "MasterTreeModel", name := "isFound", desc := "(IIII)Z" } : Jvm.MethodName)) ∈ lw_all := lw_g (lw_at lw_m15 167 rfl) rfl
theorem q3608 : (Jvm.Cond.privateMethod ({ cls := "MasterTreeModel", name := "isFound", desc := "(IIII)Z" } : Jvm.MethodName)) ∈ lw_tbl := lw_at lw_m15 168 rfl
theorem q3609 : (Jvm.Cond.instanceMethod ({ cls := "MasterTreeModel", name := "isFound", desc := "(IIII)Z" } : Jvm.MethodName)) ∈ lw_all := lw_g (lw_at lw_m15 169 rfl) rfl
theorem q3610 : (Jvm.Cond.code ({ cls := "MasterTreeModel", name := "isFound", desc := "(IIII)Z" } : Jvm.MethodName) prog_24_method_68_code (6 : Nat) (Option.some Jvm.ClassFile.FieldType.boolean)) ∈ lw_all := lw_g (lw_at lw_m15 170 rfl) rfl
theorem q3611 : (Jvm.Cond.methodLink "MasterTreeModel" (334 : Nat) ({ cls := "MasterTreeModel", name := "isBeneath", desc := "(II)Z" } : Jvm.MethodName)) ∈ lw_all := lw_g (lw_at lw_m15 171 rfl) rfl
theorem q3612 : (Jvm.Cond.privateMethod ({ cls := "MasterTreeModel", name := "isBeneath", desc := "(II)Z" } : Jvm.MethodName)) ∈ lw_tbl := lw_at lw_m15 172 rfl
theorem q3613 : (Jvm.Cond.instanceMethod ({ cls := "MasterTreeModel", name := "isBeneath", desc := "(II)Z" } : Jvm.MethodName)) ∈ lw_all := lw_g (lw_at lw_m15 173 rfl) rfl
theorem q3614 : (Jvm.Cond.code ({ cls := "MasterTreeModel", name := "isBeneath", desc := "(II)Z" } : Jvm.MethodName) prog_24_method_66_code (4 : Nat) (Option.some Jvm.ClassFile.FieldType.boolean)) ∈ lw_all := lw_g (lw_at lw_m15 174 rfl) rfl
theorem q3615 : (Jvm.Cond.methodLink "MasterTreeModel" (337 : Nat) ({ cls := "MasterTreeModel", name := "fits", desc := "(I)Z" } : Jvm.MethodName)) ∈ lw_all := lw_g (lw_at lw_m15 175 rfl) rfl
theorem q3616 : (Jvm.Cond.privateMethod ({ cls := "MasterTreeModel", name := "fits", desc := "(I)Z" } : Jvm.MethodName)) ∈ lw_tbl := lw_at lw_m15 176 rfl
theorem q3617 : (Jvm.Cond.instanceMethod ({ cls := "MasterTreeModel", name := "fits", desc := "(I)Z" } : Jvm.MethodName)) ∈ lw_all := lw_g (lw_at lw_m15 177 rfl) rfl
theorem q3618 : (Jvm.Cond.code ({ cls := "MasterTreeModel", name := "fits", desc := "(I)Z" } : Jvm.MethodName) prog_24_method_65_code (5 : Nat) (Option.some Jvm.ClassFile.FieldType.boolean)) ∈ lw_all := lw_g (lw_at lw_m15 178 rfl) rfl
theorem q3619 : (Jvm.Cond.methodLink "MasterTreeModel" (328 : Nat) ({ cls := "MasterTreeModel", name := "isAsMuch", desc := "(III)Z" } : Jvm.MethodName)) ∈ lw_all := lw_g (lw_at lw_m15 179 rfl) rfl
theorem q3620 : (Jvm.Cond.privateMethod ({ cls := "MasterTreeModel", name := "isAsMuch", desc := "(III)Z" } : Jvm.MethodName)) ∈ lw_tbl := lw_at lw_m15 180 rfl
theorem q3621 : (Jvm.Cond.instanceMethod ({ cls := "MasterTreeModel", name := "isAsMuch", desc := "(III)Z" } : Jvm.MethodName)) ∈ lw_all := lw_g (lw_at lw_m15 181 rfl) rfl
theorem q3622 : (Jvm.Cond.code ({ cls := "MasterTreeModel", name := "isAsMuch", desc := "(III)Z" } : Jvm.MethodName) prog_24_method_64_code (6 : Nat) (Option.some Jvm.ClassFile.FieldType.boolean)) ∈ lw_all := lw_g (lw_at lw_m15 182 rfl) rfl
theorem q3623 : (Jvm.Cond.methodLink "MasterTreeModel" (331 : Nat) ({ cls := "MasterTreeModel", name := "isClassOf", desc := "(II)Z" } : Jvm.MethodName)) ∈ lw_all := lw_g (lw_at lw_m15 183 rfl) rfl
theorem q3624 : (Jvm.Cond.privateMethod ({ cls := "MasterTreeModel", name := "isClassOf", desc := "(II)Z" } : Jvm.MethodName)) ∈ lw_tbl := lw_at lw_m15 184 rfl
theorem q3625 : (Jvm.Cond.instanceMethod ({ cls := "MasterTreeModel", name := "isClassOf", desc := "(II)Z" } : Jvm.MethodName)) ∈ lw_all := lw_g (lw_at lw_m15 185 rfl) rfl
theorem q3626 : (Jvm.Cond.code ({ cls := "MasterTreeModel", name := "isClassOf", desc := "(II)Z" } : Jvm.MethodName) prog_24_method_63_code (4 : Nat) (Option.some Jvm.ClassFile.FieldType.boolean)) ∈ lw_all := lw_g (lw_at lw_m15 186 rfl) rfl
theorem q3627 : (Jvm.Cond.methodLink "MasterTreeLaw" (232 : Nat) ({ cls := "MasterTreeModel", name := "searchByWalk", desc := "(III)I" } : Jvm.MethodName)) ∈ lw_all := lw_g (lw_at lw_m15 187 rfl) rfl
theorem q3628 : (Jvm.Cond.instanceMethod ({ cls := "MasterTreeModel", name := "searchByWalk", desc := "(III)I" } : Jvm.MethodName)) ∈ lw_all := lw_g (lw_at lw_m15 188 rfl) rfl
theorem q3629 : (Jvm.Cond.selects "MasterTreeModel" ({ cls := "MasterTreeModel", name := "searchByWalk", desc := "(III)I" } : Jvm.MethodName) ({ cls := "MasterTreeModel", name := "searchByWalk", desc := "(III)I" } : Jvm.MethodName)) ∈ lw_all := lw_g (lw_at lw_m15 189 rfl) rfl
theorem q3630 : (Jvm.Cond.code ({ cls := "MasterTreeModel", name := "searchByWalk", desc := "(III)I" } : Jvm.MethodName) prog_24_method_70_code (6 : Nat) (Option.some Jvm.ClassFile.FieldType.int)) ∈ lw_all := lw_g (lw_at lw_m15 190 rfl) rfl
theorem q3631 : (Jvm.Cond.methodLink "MasterTreeLaw" (235 : Nat) ({ cls := "MasterTreeModel", name := "follow", desc := "(III)I" } : Jvm.MethodName)) ∈ lw_all := lw_g (lw_at lw_m15 191 rfl) rfl
theorem q3632 : (Jvm.Cond.instanceMethod ({ cls := "MasterTreeModel", name := "follow", desc := "(III)I" } : Jvm.MethodName)) ∈ lw_all := lw_g (lw_at lw_m15 192 rfl) rfl
theorem q3633 : (Jvm.Cond.selects "MasterTreeModel" ({ cls := "MasterTreeModel", name := "follow", desc := "(III)I" } : Jvm.MethodName) ({ cls := "MasterTreeModel", name := "follow", desc := "(III)I" } : Jvm.MethodName)) ∈ lw_all := lw_g (lw_at lw_m15 193 rfl) rfl
theorem q3634 : (Jvm.Cond.code ({ cls := "MasterTreeModel", name := "follow", desc := "(III)I" } : Jvm.MethodName) prog_24_method_74_code (6 : Nat) (Option.some Jvm.ClassFile.FieldType.int)) ∈ lw_all := lw_g (lw_at lw_m15 194 rfl) rfl
theorem q3635 : (Jvm.Cond.methodLink "MasterTreeModel" (353 : Nat) ({ cls := "MasterTreeModel", name := "arrives", desc := "(I)I" } : Jvm.MethodName)) ∈ lw_all := lw_g (lw_at lw_m15 195 rfl) rfl
theorem q3636 : (Jvm.Cond.privateMethod ({ cls := "MasterTreeModel", name := "arrives", desc := "(I)I" } : Jvm.MethodName)) ∈ lw_tbl := lw_at lw_m15 196 rfl
theorem q3637 : (Jvm.Cond.instanceMethod ({ cls := "MasterTreeModel", name := "arrives", desc := "(I)I" } : Jvm.MethodName)) ∈ lw_all := lw_g (lw_at lw_m15 197 rfl) rfl
theorem q3638 : (Jvm.Cond.code ({ cls := "MasterTreeModel", name := "arrives", desc := "(I)I" } : Jvm.MethodName) prog_24_method_71_code (4 : Nat) (Option.some Jvm.ClassFile.FieldType.int)) ∈ lw_all := lw_g (lw_at lw_m15 198 rfl) rfl
theorem q3639 : (Jvm.Cond.methodLink "MasterTreeModel" (356 : Nat) ({ cls := "MasterTreeModel", name := "looks", desc := "(II)V" } : Jvm.MethodName)) ∈ lw_all := lw_g (lw_at lw_m15 199 rfl) rfl
theorem q3640 : (Jvm.Cond.privateMethod ({ cls := "MasterTreeModel", name := "looks", desc := "(II)V" } : Jvm.MethodName)) ∈ lw_tbl := lw_at lw_m15 200 rfl
theorem q3641 : (Jvm.Cond.instanceMethod ({ cls := "MasterTreeModel", name := "looks", desc := "(II)V" } : Jvm.MethodName)) ∈ lw_all := lw_g (lw_at lw_m15 201 rfl) rfl
theorem q3642 : (Jvm.Cond.code ({ cls := "MasterTreeModel", name := "looks", desc := "(II)V" } : Jvm.MethodName) prog_24_method_72_code (3 : Nat) (Option.none : Option Jvm.ClassFile.FieldType)) ∈ lw_all := lw_g (lw_at lw_m15 202 rfl) rfl
theorem q3643 : (Jvm.Cond.methodLink "MasterTreeModel" (359 : Nat) ({ cls := "MasterTreeModel", name := "waits", desc := "(I)V" } : Jvm.MethodName)) ∈ lw_all := lw_g (lw_at lw_m15 203 rfl) rfl
theorem q3644 : (Jvm.Cond.privateMethod ({ cls := "MasterTreeModel", name := "waits", desc := "(I)V" } : Jvm.MethodName)) ∈ lw_tbl := lw_at lw_m15 204 rfl
theorem q3645 : (Jvm.Cond.instanceMethod ({ cls := "MasterTreeModel", name := "waits", desc := "(I)V" } : Jvm.MethodName)) ∈ lw_all := lw_g (lw_at lw_m15 205 rfl) rfl
theorem q3646 : (Jvm.Cond.code ({ cls := "MasterTreeModel", name := "waits", desc := "(I)V" } : Jvm.MethodName) prog_24_method_73_code (5 : Nat) (Option.none : Option Jvm.ClassFile.FieldType)) ∈ lw_all := lw_g (lw_at lw_m15 206 rfl) rfl
theorem q3647 : (Jvm.Cond.methodLink "MasterTreeLaw" (238 : Nat) ({ cls := "MasterTreeModel", name := "found", desc := "(I)I" } : Jvm.MethodName)) ∈ lw_all := lw_g (lw_at lw_m15 207 rfl) rfl
theorem q3648 : (Jvm.Cond.instanceMethod ({ cls := "MasterTreeModel", name := "found", desc := "(I)I" } : Jvm.MethodName)) ∈ lw_all := lw_g (lw_at lw_m15 208 rfl) rfl
theorem q3649 : (Jvm.Cond.selects "MasterTreeModel" ({ cls := "MasterTreeModel", name := "found", desc := "(I)I" } : Jvm.MethodName) ({ cls := "MasterTreeModel", name := "found", desc := "(I)I" } : Jvm.MethodName)) ∈ lw_all := lw_g (lw_at lw_m15 209 rfl) rfl
theorem q3650 : (Jvm.Cond.code ({ cls := "MasterTreeModel", name := "found", desc := "(I)I" } : Jvm.MethodName) prog_24_method_75_code (2 : Nat) (Option.some Jvm.ClassFile.FieldType.int)) ∈ lw_all := lw_g (lw_at lw_m15 210 rfl) rfl
theorem q3651 : (Jvm.Cond.methodLink "MasterTreeLaw" (241 : Nat) ({ cls := "MasterTreeModel", name := "live", desc := "(I)I" } : Jvm.MethodName)) ∈ lw_all := lw_g (lw_at lw_m15 211 rfl) rfl
theorem q3652 : (Jvm.Cond.instanceMethod ({ cls := "MasterTreeModel", name := "live", desc := "(I)I" } : Jvm.MethodName)) ∈ lw_all := lw_g (lw_at lw_m15 212 rfl) rfl
theorem q3653 : (Jvm.Cond.selects "MasterTreeModel" ({ cls := "MasterTreeModel", name := "live", desc := "(I)I" } : Jvm.MethodName) ({ cls := "MasterTreeModel", name := "live", desc := "(I)I" } : Jvm.MethodName)) ∈ lw_all := lw_g (lw_at lw_m15 213 rfl) rfl
theorem q3654 : (Jvm.Cond.code ({ cls := "MasterTreeModel", name := "live", desc := "(I)I" } : Jvm.MethodName) prog_24_method_76_code (4 : Nat) (Option.some Jvm.ClassFile.FieldType.int)) ∈ lw_all := lw_g (lw_at lw_m15 214 rfl) rfl
theorem q3655 : (Jvm.Cond.methodLink "MasterTreeLaw" (244 : Nat) ({ cls := "MasterTreeModel", name := "parentOf", desc := "(II)I" } : Jvm.MethodName)) ∈ lw_all := lw_g (lw_at lw_m15 215 rfl) rfl
theorem q3656 : (Jvm.Cond.instanceMethod ({ cls := "MasterTreeModel", name := "parentOf", desc := "(II)I" } : Jvm.MethodName)) ∈ lw_all := lw_g (lw_at lw_m15 216 rfl) rfl
theorem q3657 : (Jvm.Cond.selects "MasterTreeModel" ({ cls := "MasterTreeModel", name := "parentOf", desc := "(II)I" } : Jvm.MethodName) ({ cls := "MasterTreeModel", name := "parentOf", desc := "(II)I" } : Jvm.MethodName)) ∈ lw_all := lw_g (lw_at lw_m15 217 rfl) rfl
theorem q3658 : (Jvm.Cond.code ({ cls := "MasterTreeModel", name := "parentOf", desc := "(II)I" } : Jvm.MethodName) prog_24_method_77_code (3 : Nat) (Option.some Jvm.ClassFile.FieldType.int)) ∈ lw_all := lw_g (lw_at lw_m15 218 rfl) rfl
theorem q3659 : (Jvm.Cond.methodLink "MasterTreeLaw" (247 : Nat) ({ cls := "MasterTreeModel", name := "parentAnew", desc := "(II)I" } : Jvm.MethodName)) ∈ lw_all := lw_g (lw_at lw_m15 219 rfl) rfl
theorem q3660 : (Jvm.Cond.instanceMethod ({ cls := "MasterTreeModel", name := "parentAnew", desc := "(II)I" } : Jvm.MethodName)) ∈ lw_all := lw_g (lw_at lw_m15 220 rfl) rfl
theorem q3661 : (Jvm.Cond.selects "MasterTreeModel" ({ cls := "MasterTreeModel", name := "parentAnew", desc := "(II)I" } : Jvm.MethodName) ({ cls := "MasterTreeModel", name := "parentAnew", desc := "(II)I" } : Jvm.MethodName)) ∈ lw_all := lw_g (lw_at lw_m15 221 rfl) rfl
theorem q3662 : (Jvm.Cond.code ({ cls := "MasterTreeModel", name := "parentAnew", desc := "(II)I" } : Jvm.MethodName) prog_24_method_78_code (3 : Nat) (Option.some Jvm.ClassFile.FieldType.int)) ∈ lw_all := lw_g (lw_at lw_m15 222 rfl) rfl
theorem q3663 : (Jvm.Cond.methodLink "MasterTreeLaw" (250 : Nat) ({ cls := "MasterTreeModel", name := "nameOf", desc := "(II)I" } : Jvm.MethodName)) ∈ lw_all := lw_g (lw_at lw_m15 223 rfl) rfl
theorem q3664 : (Jvm.Cond.instanceMethod ({ cls := "MasterTreeModel", name := "nameOf", desc := "(II)I" } : Jvm.MethodName)) ∈ lw_all := lw_g (lw_at lw_m15 224 rfl) rfl
theorem q3665 : (Jvm.Cond.selects "MasterTreeModel" ({ cls := "MasterTreeModel", name := "nameOf", desc := "(II)I" } : Jvm.MethodName) ({ cls := "MasterTreeModel", name := "nameOf", desc := "(II)I" } : Jvm.MethodName)) ∈ lw_all := lw_g (lw_at lw_m15 225 rfl) rfl
theorem q3666 : (Jvm.Cond.code ({ cls := "MasterTreeModel", name := "nameOf", desc := "(II)I" } : Jvm.MethodName) prog_24_method_79_code (3 : Nat) (Option.some Jvm.ClassFile.FieldType.int)) ∈ lw_all := lw_g (lw_at lw_m15 226 rfl) rfl
theorem q3667 : (Jvm.Cond.methodLink "MasterTreeLaw" (253 : Nat) ({ cls := "MasterTreeModel", name := "valueAt", desc := "(IIII)I" } : Jvm.MethodName)) ∈ lw_all := lw_g (lw_at lw_m15 227 rfl) rfl
theorem q3668 : (Jvm.Cond.instanceMethod ({ cls := "MasterTreeModel", name := "valueAt", desc := "(IIII)I" } : Jvm.MethodName)) ∈ lw_all := lw_g (lw_at lw_m15 228 rfl) rfl
theorem q3669 : (Jvm.Cond.selects "MasterTreeModel" ({ cls := "MasterTreeModel", name := "valueAt", desc := "(IIII)I" } : Jvm.MethodName) ({ cls := "MasterTreeModel", name := "valueAt", desc := "(IIII)I" } : Jvm.MethodName)) ∈ lw_all := lw_g (lw_at lw_m15 229 rfl) rfl
theorem q3670 : (Jvm.Cond.code ({ cls := "MasterTreeModel", name := "valueAt", desc := "(IIII)I" } : Jvm.MethodName) prog_24_method_80_code (10 : Nat) (Option.some Jvm.ClassFile.FieldType.int)) ∈ lw_all := lw_g (lw_at lw_m15 230 rfl) rfl
theorem q3671 : (Jvm.Cond.methodLink "MasterTreeLaw" (256 : Nat) ({ cls := "MasterTreeModel", name := "valuesAnew", desc := "(III)I" } : Jvm.MethodName)) ∈ lw_all := lw_g (lw_at lw_m15 231 rfl) rfl
theorem q3672 : (Jvm.Cond.instanceMethod ({ cls := "MasterTreeModel", name := "valuesAnew", desc := "(III)I" } : Jvm.MethodName)) ∈ lw_all := lw_g (lw_at lw_m15 232 rfl) rfl
theorem q3673 : (Jvm.Cond.selects "MasterTreeModel" ({ cls := "MasterTreeModel", name := "valuesAnew", desc := "(III)I" } : Jvm.MethodName) ({ cls := "MasterTreeModel", name := "valuesAnew", desc := "(III)I" } : Jvm.MethodName)) ∈ lw_all := lw_g (lw_at lw_m15 233 rfl) rfl
theorem q3674 : (Jvm.Cond.code ({ cls := "MasterTreeModel", name := "valuesAnew", desc := "(III)I" } : Jvm.MethodName) prog_24_method_81_code (4 : Nat) (Option.some Jvm.ClassFile.FieldType.int)) ∈ lw_all := lw_g (lw_at lw_m15 234 rfl) rfl
theorem q3675 : (Jvm.Cond.methodLink "MasterTreeLaw" (259 : Nat) ({ cls := "MasterTreeModel", name := "linkOf", desc := "(II)I" } : Jvm.MethodName)) ∈ lw_all := lw_g (lw_at lw_m15 235 rfl) rfl
theorem q3676 : (Jvm.Cond.instanceMethod ({ cls := "MasterTreeModel", name := "linkOf", desc := "(II)I" } : Jvm.MethodName)) ∈ lw_all := lw_g (lw_at lw_m15 236 rfl) rfl
theorem q3677 : (Jvm.Cond.selects "MasterTreeModel" ({ cls := "MasterTreeModel", name := "linkOf", desc := "(II)I" } : Jvm.MethodName) ({ cls := "MasterTreeModel", name := "linkOf", desc := "(II)I" } : Jvm.MethodName)) ∈ lw_all := lw_g (lw_at lw_m15 237 rfl) rfl
theorem q3678 : (Jvm.Cond.code ({ cls := "MasterTreeModel", name := "linkOf", desc := "(II)I" } : Jvm.MethodName) prog_24_method_82_code (3 : Nat) (Option.some Jvm.ClassFile.FieldType.int)) ∈ lw_all := lw_g (lw_at lw_m15 238 rfl) rfl
theorem q3679 : (Jvm.Cond.methodLink "MasterTreeLaw" (262 : Nat) ({ cls := "MasterTreeModel", name := "may", desc := "(IIII)Z" } : Jvm.MethodName)) ∈ lw_all := lw_g (lw_at lw_m15 239 rfl) rfl
theorem q3680 : (Jvm.Cond.instanceMethod ({ cls := "MasterTreeModel", name := "may", desc := "(IIII)Z" } : Jvm.MethodName)) ∈ lw_all := lw_g (lw_at lw_m16 0 rfl) rfl
theorem q3681 : (Jvm.Cond.selects "MasterTreeModel" ({ cls := "MasterTreeModel", name := "may", desc := "(IIII)Z" } : Jvm.MethodName) ({ cls := "MasterTreeModel", name := "may", desc := "(IIII)Z" } : Jvm.MethodName)) ∈ lw_all := lw_g (lw_at lw_m16 1 rfl) rfl
theorem q3682 : (Jvm.Cond.code ({ cls := "MasterTreeModel", name := "may", desc := "(IIII)Z" } : Jvm.MethodName) prog_24_method_83_code (5 : Nat) (Option.some Jvm.ClassFile.FieldType.boolean)) ∈ lw_all := lw_g (lw_at lw_m16 2 rfl) rfl
theorem q3683 : (Jvm.Cond.methodLink "MasterTreeLaw" (265 : Nat) ({ cls := "MasterTreeModel", name := "childAt", desc := "(III)I" } : Jvm.MethodName)) ∈ lw_all := lw_g (lw_at lw_m16 3 rfl) rfl
theorem q3684 : (Jvm.Cond.instanceMethod ({ cls := "MasterTreeModel", name := "childAt", desc := "(III)I" } : Jvm.MethodName)) ∈ lw_all := lw_g (lw_at lw_m16 4 rfl) rfl
theorem q3685 : (Jvm.Cond.selects "MasterTreeModel" ({ cls := "MasterTreeModel", name := "childAt", desc := "(III)I" } : Jvm.MethodName) ({ cls := "MasterTreeModel", name := "childAt", desc := "(III)I" } : Jvm.MethodName)) ∈ lw_all := lw_g (lw_at lw_m16 5 rfl) rfl
theorem q3686 : (Jvm.Cond.code ({ cls := "MasterTreeModel", name := "childAt", desc := "(III)I" } : Jvm.MethodName) prog_24_method_84_code (10 : Nat) (Option.some Jvm.ClassFile.FieldType.int)) ∈ lw_all := lw_g (lw_at lw_m16 6 rfl) rfl
theorem q3687 : (Jvm.Cond.methodLink "MasterTreeLaw" (268 : Nat) ({ cls := "MasterTreeModel", name := "conflicts", desc := "(II)I" } : Jvm.MethodName)) ∈ lw_all := lw_g (lw_at lw_m16 7 rfl) rfl
theorem q3688 : (Jvm.Cond.instanceMethod ({ cls := "MasterTreeModel", name := "conflicts", desc := "(II)I" } : Jvm.MethodName)) ∈ lw_all := lw_g (lw_at lw_m16 8 rfl) rfl
theorem q3689 : (Jvm.Cond.selects "MasterTreeModel" ({ cls := "MasterTreeModel", name := "conflicts", desc := "(II)I" } : Jvm.MethodName) ({ cls := "MasterTreeModel", name := "conflicts", desc := "(II)I" } : Jvm.MethodName)) ∈ lw_all := lw_g (lw_at lw_m16 9 rfl) rfl
theorem q3690 : (Jvm.Cond.code ({ cls := "MasterTreeModel", name := "conflicts", desc := "(II)I" } : Jvm.MethodName) prog_24_method_86_code (6 : Nat) (Option.some Jvm.ClassFile.FieldType.int)) ∈ lw_all := lw_g (lw_at lw_m16 10 rfl) rfl
theorem q3691 : (Jvm.Cond.methodLink "MasterTreeModel" (362 : Nat) ({ cls := "MasterTreeModel", name := "isIncomplete", desc := "(I)Z" } : Jvm.MethodName)) ∈ lw_all := lw_g (lw_at lw_m16 11 rfl) rfl
theorem q3692 : (Jvm.Cond.privateMethod ({ cls := "MasterTreeModel", name := "isIncomplete", desc := "(I)Z" } : Jvm.MethodName)) ∈ lw_tbl := lw_at lw_m16 12 rfl
theorem q3693 : (Jvm.Cond.instanceMethod ({ cls := "MasterTreeModel", name := "isIncomplete", desc := "(I)Z" } : Jvm.MethodName)) ∈ lw_all := lw_g (lw_at lw_m16 13 rfl) rfl
theorem q3694 : (Jvm.Cond.code ({ cls := "MasterTreeModel", name := "isIncomplete", desc := "(I)Z" } : Jvm.MethodName) prog_24_method_85_code (4 : Nat) (Option.some Jvm.ClassFile.FieldType.boolean)) ∈ lw_all := lw_g (lw_at lw_m16 14 rfl) rfl
theorem q3695 : (Jvm.Cond.methodLink "MasterTreeLaw" (271 : Nat) ({ cls := "MasterTreeModel", name := "knows", desc := "(II)I" } : Jvm.MethodName)) ∈ lw_all := lw_g (lw_at lw_m16 15 rfl) rfl
theorem q3696 : (Jvm.Cond.instanceMethod ({ cls := "MasterTreeModel", name := "knows", desc := "(II)I" } : Jvm.MethodName)) ∈ lw_all := lw_g (lw_at lw_m16 16 rfl) rfl
theorem q3697 : (Jvm.Cond.selects "MasterTreeModel" ({ cls := "MasterTreeModel", name := "knows", desc := "(II)I" } : Jvm.MethodName) ({ cls := "MasterTreeModel", name := "knows", desc := "(II)I" } : Jvm.MethodName)) ∈ lw_all := lw_g (lw_at lw_m16 17 rfl) rfl
theorem q3698 : (Jvm.Cond.code ({ cls := "MasterTreeModel", name := "knows", desc := "(II)I" } : Jvm.MethodName) prog_24_method_87_code (3 : Nat) (Option.some Jvm.ClassFile.FieldType.int)) ∈ lw_all := lw_g (lw_at lw_m16 18 rfl) rfl
theorem q3699 : (Jvm.Cond.methodLink "MasterTreeLaw" (274 : Nat) ({ cls := "MasterTreeModel", name := "marks", desc := "(I)I" } : Jvm.MethodName)) ∈ lw_all := lw_g (lw_at lw_m16 19 rfl) rfl
theorem q3700 : (Jvm.Cond.instanceMethod ({ cls := "MasterTreeModel", name := "marks", desc := "(I)I" } : Jvm.MethodName)) ∈ lw_all := lw_g (lw_at lw_m16 20 rfl) rfl
theorem q3701 : (Jvm.Cond.selects "MasterTreeModel" ({ cls := "MasterTreeModel", name := "marks", desc := "(I)I" } : Jvm.MethodName) ({ cls := "MasterTreeModel", name := "marks", desc := "(I)I" } : Jvm.MethodName)) ∈ lw_all := lw_g (lw_at lw_m16 21 rfl) rfl
theorem q3702 : (Jvm.Cond.code ({ cls := "MasterTreeModel", name := "marks", desc := "(I)I" } : Jvm.MethodName) prog_24_method_88_code (2 : Nat) (Option.some Jvm.ClassFile.FieldType.int)) ∈ lw_all := lw_g (lw_at lw_m16 22 rfl) rfl
theorem q3703 : (Jvm.Cond.methodLink "MasterTreeLaw" (277 : Nat) ({ cls := "MasterTreeModel", name := "areAlike", desc := "(II)Z" } : Jvm.MethodName)) ∈ lw_all := lw_g (lw_at lw_m16 23 rfl) rfl
theorem q3704 : (Jvm.Cond.instanceMethod ({ cls := "MasterTreeModel", name := "areAlike", desc := "(II)Z" } : Jvm.MethodName)) ∈ lw_all := lw_g (lw_at lw_m16 24 rfl) rfl
theorem q3705 : (Jvm.Cond.selects "MasterTreeModel" ({ cls := "MasterTreeModel", name := "areAlike", desc := "(II)Z" } : Jvm.MethodName) ({ cls := "MasterTreeModel", name := "areAlike", desc := "(II)Z" } : Jvm.MethodName)) ∈ lw_all := lw_g (lw_at lw_m16 25 rfl) rfl
theorem q3706 : (Jvm.Cond.code ({ cls := "MasterTreeModel", name := "areAlike", desc := "(II)Z" } : Jvm.MethodName) prog_24_method_92_code (3 : Nat) (Option.some Jvm.ClassFile.FieldType.boolean)) ∈ lw_all := lw_g (lw_at lw_m16 26 rfl) rfl
theorem q3707 : (Jvm.Cond.methodLink "MasterTreeModel" (374 : Nat) ({ cls := "MasterTreeModel", name := "isAlike", desc := "(II)Z" } : Jvm.MethodName)) ∈ lw_all := lw_g (lw_at lw_m16 27 rfl) rfl
theorem q3708 : (Jvm.Cond.privateMethod ({ cls := "MasterTreeModel", name := "isAlike", desc := "(II)Z" } : Jvm.MethodName)) ∈ lw_tbl := lw_at lw_m16 28 rfl
theorem q3709 : (Jvm.Cond.instanceMethod ({ cls := "MasterTreeModel", name := "isAlike", desc := "(II)Z" } : Jvm.MethodName)) ∈ lw_all := lw_g (lw_at lw_m16 29 rfl) rfl
theorem q3710 : (Jvm.Cond.code ({ cls := "MasterTreeModel", name := "isAlike", desc := "(II)Z" } : Jvm.MethodName) prog_24_method_91_code (6 : Nat) (Option.some Jvm.ClassFile.FieldType.boolean)) ∈ lw_all := lw_g (lw_at lw_m16 30 rfl) rfl
theorem q3711 : (Jvm.Cond.methodLink "MasterTreeModel" (368 : Nat) ({ cls := "MasterTreeModel", name := "keeps", desc := "()V" } : Jvm.MethodName)) ∈ lw_all := lw_g (lw_at lw_m16 31 rfl) rfl
theorem q3712 : (Jvm.Cond.privateMethod ({ cls := "MasterTreeModel", name := "keeps", desc := "()V" } : Jvm.MethodName)) ∈ lw_tbl := lw_at lw_m16 32 rfl
theorem q3713 : (Jvm.Cond.instanceMethod ({ cls := "MasterTreeModel", name := "keeps", desc := "()V" } : Jvm.MethodName)) ∈ lw_all := lw_g (lw_at lw_m16 33 rfl) rfl
theorem q3714 : (Jvm.Cond.code ({ cls := "MasterTreeModel", name := "keeps", desc := "()V" } : Jvm.MethodName) prog_24_method_89_code (2 : Nat) (Option.none : Option Jvm.ClassFile.FieldType)) ∈ lw_all := lw_g (lw_at lw_m16 34 rfl) rfl
theorem q3715 : (Jvm.Cond.methodLink "MasterTreeModel" (371 : Nat) ({ cls := "MasterTreeModel", name := "hasSame", desc := "(I)Z" } : Jvm.MethodName)) ∈ lw_all := lw_g (lw_at lw_m16 35 rfl) rfl
theorem q3716 : (Jvm.Cond.privateMethod ({ cls := "MasterTreeModel", name := "hasSame", desc := "(I)Z" } : Jvm.MethodName)) ∈ lw_tbl := lw_at lw_m16 36 rfl
theorem q3717 : (Jvm.Cond.instanceMethod ({ cls := "MasterTreeModel", name := "hasSame", desc := "(I)Z" } : Jvm.MethodName)) ∈ lw_all := lw_g (lw_at lw_m16 37 rfl) rfl
theorem q3718 : (Jvm.Cond.code ({ cls := "MasterTreeModel", name := "hasSame", desc := "(I)Z" } : Jvm.MethodName) prog_24_method_90_code (7 : Nat) (Option.some Jvm.ClassFile.FieldType.boolean)) ∈ lw_all := lw_g (lw_at lw_m16 38 rfl) rfl
theorem q3719 : (Jvm.Cond.sameMethod "java/lang/Throwable" "java/lang/Throwable" "fillInStackTrace" "(I)Ljava/lang/Throwable;") ∈ lw_all := lw_g (lw_at lw_m16 39 rfl) rfl
theorem q3720 : (Jvm.Cond.sameMethod "java/lang/AbstractStringBuilder" "java/lang/AbstractStringBuilder" "append" "(Ljava/lang/String;)Ljava/lang/AbstractStringBuilder;") ∈ lw_all := lw_g (lw_at lw_m16 40 rfl) rfl
theorem q3721 : (Jvm.Cond.sameMethod "java/lang/AbstractStringBuilder" "java/lang/AbstractStringBuilder" "appendNull" "()Ljava/lang/AbstractStringBuilder;") ∈ lw_all := lw_g (lw_at lw_m16 41 rfl) rfl
theorem q3722 : (Jvm.Cond.sameMethod "java/lang/AbstractStringBuilder" "java/lang/AbstractStringBuilder" "ensureCapacityInternal" "(I)V") ∈ lw_all := lw_g (lw_at lw_m16 42 rfl) rfl
theorem q3723 : (Jvm.Cond.sameMethod "java/lang/AbstractStringBuilder" "java/lang/AbstractStringBuilder" "newCapacity" "(I)I") ∈ lw_all := lw_g (lw_at lw_m16 43 rfl) rfl
theorem q3724 : (Jvm.Cond.sameMethod "java/lang/AbstractStringBuilder" "java/lang/AbstractStringBuilder" "putStringAt" "(ILjava/lang/String;)V") ∈ lw_all := lw_g (lw_at lw_m16 44 rfl) rfl
theorem q3725 : (Jvm.Cond.sameMethod "java/lang/AbstractStringBuilder" "java/lang/AbstractStringBuilder" "inflateIfNeededFor" "(Ljava/lang/String;)V") ∈ lw_all := lw_g (lw_at lw_m16 45 rfl) rfl
theorem q3726 : (Jvm.Cond.sameMethod "java/lang/AbstractStringBuilder" "java/lang/AbstractStringBuilder" "inflate" "()V") ∈ lw_all := lw_g (lw_at lw_m16 46 rfl) rfl
theorem q3727 : (Jvm.Cond.sameMethod "java/lang/AbstractStringBuilder" "java/lang/AbstractStringBuilder" "append" "(I)Ljava/lang/AbstractStringBuilder;") ∈ lw_all := lw_g (lw_at lw_m16 47 rfl) rfl
theorem q3728 : (Jvm.Cond.sameMethod "java/lang/AbstractStringBuilder" "java/lang/AbstractStringBuilder" "compareTo" "(Ljava/lang/AbstractStringBuilder;)I") ∈ lw_all := lw_g (lw_at lw_m16 48 rfl) rfl
theorem q3729 : (Jvm.Cond.selects "java/util/TreeMap" ({ cls := "java/util/TreeMap", name := "size", desc := "()I" } : Jvm.MethodName) ({ cls := "java/util/TreeMap", name := "size", desc := "()I" } : Jvm.MethodName)) ∈ lw_all := lw_g (lw_at lw_m16 49 rfl) rfl
theorem q3730 : (Jvm.Cond.sameMethod "java/util/TreeMap$NavigableSubMap" "java/util/TreeMap$NavigableSubMap" "absLowest" "()Ljava/util/TreeMap$Entry;") ∈ lw_all := lw_g (lw_at lw_m16 50 rfl) rfl
theorem q3731 : (Jvm.Cond.selects "java/util/TreeMap$AscendingSubMap" ({ cls := "java/util/TreeMap$NavigableSubMap", name := "absLowest", desc := "()Ljava/util/TreeMap$Entry;" } : Jvm.MethodName) ({ cls := "java/util/TreeMap$NavigableSubMap", name := "absLowest", desc := "()Ljava/util/TreeMap$Entry;" } : Jvm.MethodName)) ∈ lw_all := lw_g (lw_at lw_m16 51 rfl) rfl
theorem q3732 : (Jvm.Cond.initialized "java/lang/Object") ∈ lw_all := lw_g (lw_at lw_m16 52 rfl) rfl
theorem q3733 : (Jvm.Cond.castable "java/lang/ArrayIndexOutOfBoundsException" "java/lang/IndexOutOfBoundsException") ∈ lw_tbl := lw_at lw_m16 53 rfl
theorem q3734 : (Jvm.Cond.castable "MasterTree$Kind$1" "java/lang/Enum") ∈ lw_tbl := lw_at lw_m16 54 rfl
theorem q3735 : (Jvm.Cond.castable "MasterTree$Kind$2" "java/lang/Enum") ∈ lw_tbl := lw_at lw_m16 55 rfl
theorem q3736 : (Jvm.Cond.castable "MasterTree$Kind$3" "java/lang/Enum") ∈ lw_tbl := lw_at lw_m16 56 rfl
theorem q3737 : (Jvm.Cond.castable "MasterTree$Kind$4" "java/lang/Enum") ∈ lw_tbl := lw_at lw_m16 57 rfl
theorem q3738 : (Jvm.Cond.castable "MasterTree$Kind$5" "java/lang/Enum") ∈ lw_tbl := lw_at lw_m16 58 rfl
theorem q3739 : (Jvm.Cond.castable "MasterTree$Kind$6" "java/lang/Enum") ∈ lw_tbl := lw_at lw_m16 59 rfl
theorem q3740 : (Jvm.Cond.castable "MasterTree$Kind$7" "java/lang/Enum") ∈ lw_tbl := lw_at lw_m16 60 rfl
theorem q3741 : (Jvm.Cond.castable "MasterTree$Kind$8" "java/lang/Enum") ∈ lw_tbl := lw_at lw_m16 61 rfl
theorem q3742 : (Jvm.Cond.castable "MasterTree$Kind$9" "java/lang/Enum") ∈ lw_tbl := lw_at lw_m16 62 rfl
theorem q3743 : (Jvm.Cond.castable "java/util/TreeMap$AscendingSubMap" "java/util/TreeMap$NavigableSubMap") ∈ lw_tbl := lw_at lw_m16 63 rfl
theorem q3744 : (Jvm.Cond.castable "MasterTree$ByClass" "MasterTree$Filter") ∈ lw_tbl := lw_at lw_m16 64 rfl
theorem q3745 : (Jvm.Cond.castable "MasterTree$ByValue" "MasterTree$Filter") ∈ lw_tbl := lw_at lw_m16 65 rfl
theorem q3746 : (Jvm.Cond.castable "MasterTree$Combined" "MasterTree$Filter") ∈ lw_tbl := lw_at lw_m16 66 rfl
theorem q3747 : (Jvm.Cond.castable "MasterTree$Not" "MasterTree$Filter") ∈ lw_tbl := lw_at lw_m16 67 rfl
theorem q3748 : (Jvm.Cond.castable "MasterTree$Entry" "java/lang/Object") ∈ lw_tbl := lw_at lw_m16 68 rfl
theorem q3749 : (Jvm.Cond.castable "MasterTree" "java/lang/Object") ∈ lw_tbl := lw_at lw_m16 69 rfl
theorem q3750 : (Jvm.Cond.castable "java/util/ArrayList" "java/lang/Object") ∈ lw_tbl := lw_at lw_m16 70 rfl
theorem q3751 : (Jvm.Cond.castable "MasterTree$Master" "java/lang/Object") ∈ lw_tbl := lw_at lw_m16 71 rfl
theorem q3752 : (Jvm.Cond.castable "java/util/TreeMap" "java/lang/Object") ∈ lw_tbl := lw_at lw_m16 72 rfl
theorem q3753 : (Jvm.Cond.castable "MasterTreeModel" "java/lang/Object") ∈ lw_tbl := lw_at lw_m16 73 rfl
theorem q3754 : (Jvm.Cond.castable "java/lang/IllegalStateException" "java/lang/Object") ∈ lw_tbl := lw_at lw_m16 74 rfl
theorem q3755 : (Jvm.Cond.castable "MasterTree$Attribute" "java/lang/Object") ∈ lw_tbl := lw_at lw_m16 75 rfl
theorem q3756 : (Jvm.Cond.castable "java/lang/ArrayIndexOutOfBoundsException" "java/lang/Object") ∈ lw_tbl := lw_at lw_m16 76 rfl
theorem q3757 : (Jvm.Cond.castable "java/lang/IndexOutOfBoundsException" "java/lang/Object") ∈ lw_tbl := lw_at lw_m16 77 rfl
theorem q3758 : (Jvm.Cond.castable "java/lang/StringBuilder" "java/lang/Object") ∈ lw_tbl := lw_at lw_m16 78 rfl
theorem q3759 : (Jvm.Cond.castable "java/lang/String" "java/lang/Object") ∈ lw_tbl := lw_at lw_m16 79 rfl
theorem q3760 : (Jvm.Cond.castable "java/lang/IllegalArgumentException" "java/lang/Object") ∈ lw_tbl := lw_at lw_m16 80 rfl
theorem q3761 : (Jvm.Cond.castable "MasterTree$Klass" "java/lang/Object") ∈ lw_tbl := lw_at lw_m16 81 rfl
theorem q3762 : (Jvm.Cond.castable "java/util/TreeMap$EntrySet" "java/lang/Object") ∈ lw_tbl := lw_at lw_m16 82 rfl
theorem q3763 : (Jvm.Cond.castable "java/util/TreeMap$EntryIterator" "java/lang/Object") ∈ lw_tbl := lw_at lw_m16 83 rfl
theorem q3764 : (Jvm.Cond.castable "java/lang/Integer" "java/lang/Object") ∈ lw_tbl := lw_at lw_m16 84 rfl
theorem q3765 : (Jvm.Cond.castable "jdk/internal/misc/Unsafe" "java/lang/Object") ∈ lw_tbl := lw_at lw_m16 85 rfl
theorem q3766 : (Jvm.Cond.castable "java/util/ArrayList$Itr" "java/lang/Object") ∈ lw_tbl := lw_at lw_m16 86 rfl
theorem q3767 : (Jvm.Cond.castable "MasterTree$Kind$1" "java/lang/Object") ∈ lw_tbl := lw_at lw_m16 87 rfl
theorem q3768 : (Jvm.Cond.castable "MasterTree$Change" "java/lang/Object") ∈ lw_tbl := lw_at lw_m16 88 rfl
theorem q3769 : (Jvm.Cond.castable "java/util/TreeMap$KeySet" "java/lang/Object") ∈ lw_tbl := lw_at lw_m16 89 rfl
theorem q3770 : (Jvm.Cond.castable "java/util/TreeMap$KeyIterator" "java/lang/Object") ∈ lw_tbl := lw_at lw_m16 90 rfl
theorem q3771 : (Jvm.Cond.castable "java/lang/Long" "java/lang/Object") ∈ lw_tbl := lw_at lw_m16 91 rfl
theorem q3772 : (Jvm.Cond.castable "java/util/TreeMap$Entry" "java/lang/Object") ∈ lw_tbl := lw_at lw_m16 92 rfl
theorem q3773 : (Jvm.Cond.castable "java/util/TreeMap$AscendingSubMap" "java/lang/Object") ∈ lw_tbl := lw_at lw_m16 93 rfl
theorem q3774 : (Jvm.Cond.castable "java/util/TreeMap$AscendingSubMap$AscendingEntrySetView" "java/lang/Object") ∈ lw_tbl := lw_at lw_m16 94 rfl
theorem q3775 : (Jvm.Cond.castable "java/util/TreeMap$NavigableSubMap$SubMapEntryIterator" "java/lang/Object") ∈ lw_tbl := lw_at lw_m16 95 rfl
theorem q3776 : (Jvm.Cond.castable "java/util/TreeMap$NavigableSubMap$SubMapKeyIterator" "java/lang/Object") ∈ lw_tbl := lw_at lw_m16 96 rfl
theorem q3777 : (Jvm.Cond.castable "java/util/ConcurrentModificationException" "java/lang/Object") ∈ lw_tbl := lw_at lw_m16 97 rfl
theorem q3778 : (Jvm.Cond.castable "MasterTree$Kind$8" "java/lang/Object") ∈ lw_tbl := lw_at lw_m16 98 rfl
theorem q3779 : (Jvm.Cond.castable "MasterTree$Kind$2" "java/lang/Object") ∈ lw_tbl := lw_at lw_m16 99 rfl
theorem q3780 : (Jvm.Cond.castable "MasterTree$Kind$3" "java/lang/Object") ∈ lw_tbl := lw_at lw_m16 100 rfl
theorem q3781 : (Jvm.Cond.castable "MasterTree$Kind$4" "java/lang/Object") ∈ lw_tbl := lw_at lw_m16 101 rfl
theorem q3782 : (Jvm.Cond.castable "MasterTree$Kind$5" "java/lang/Object") ∈ lw_tbl := lw_at lw_m16 102 rfl
theorem q3783 : (Jvm.Cond.castable "MasterTree$Kind$9" "java/lang/Object") ∈ lw_tbl := lw_at lw_m16 103 rfl
theorem q3784 : (Jvm.Cond.castable "MasterTree$Kind$6" "java/lang/Object") ∈ lw_tbl := lw_at lw_m16 104 rfl
theorem q3785 : (Jvm.Cond.castable "MasterTree$Kind$7" "java/lang/Object") ∈ lw_tbl := lw_at lw_m16 105 rfl
theorem q3786 : (Jvm.Cond.castable "MasterTree$ByValue" "java/lang/Object") ∈ lw_tbl := lw_at lw_m16 106 rfl
theorem q3787 : (Jvm.Cond.castable "MasterTree$ByClass" "java/lang/Object") ∈ lw_tbl := lw_at lw_m16 107 rfl
theorem q3788 : (Jvm.Cond.castable "MasterTree$Combined" "java/lang/Object") ∈ lw_tbl := lw_at lw_m16 108 rfl
theorem q3789 : (Jvm.Cond.castable "MasterTree$Not" "java/lang/Object") ∈ lw_tbl := lw_at lw_m16 109 rfl
theorem q3790 : (Jvm.Cond.castable "java/util/TreeMap$Values" "java/lang/Object") ∈ lw_tbl := lw_at lw_m16 110 rfl
theorem q3791 : (Jvm.Cond.castable "java/util/AbstractMap$2" "java/lang/Object") ∈ lw_tbl := lw_at lw_m16 111 rfl
theorem q3792 : (Jvm.Cond.castable "java/util/AbstractMap$2$1" "java/lang/Object") ∈ lw_tbl := lw_at lw_m16 112 rfl
theorem q3793 : (Jvm.Cond.castable "java/util/TreeMap$ValueIterator" "java/lang/Object") ∈ lw_tbl := lw_at lw_m16 113 rfl
theorem q3794 : (Jvm.Cond.castable "MasterTree$Following" "java/lang/Object") ∈ lw_tbl := lw_at lw_m16 114 rfl
theorem q3795 : (Jvm.Cond.castable "java/lang/Throwable" "java/lang/Object") ∈ lw_tbl := lw_at lw_m16 115 rfl
theorem q3796 : (Jvm.Cond.sameMethod "[Ljava/lang/Object;" "java/lang/Object" "getClass" "()Ljava/lang/Class;") ∈ lw_all := lw_g (lw_at lw_m16 116 rfl) rfl
theorem q3797 : (Jvm.Cond.selects "[Ljava/lang/Object;" ({ cls := "java/lang/Object", name := "getClass", desc := "()Ljava/lang/Class;" } : Jvm.MethodName) ({ cls := "java/lang/Object", name := "getClass", desc := "()Ljava/lang/Class;" } : Jvm.MethodName)) ∈ lw_all := lw_g (lw_at lw_m16 117 rfl) rfl
theorem q3798 : (Jvm.Cond.declares ({ cls := "java/lang/Object", name := "getClass", desc := "()Ljava/lang/Class;" } : Jvm.MethodName)) ∈ lw_tbl := lw_at lw_m16 118 rfl
theorem q3799 : (Jvm.Cond.castable "MasterTree$Kind" "java/lang/Object") ∈ lw_tbl := lw_at lw_m16 119 rfl
theorem q3800 : (Jvm.Cond.castable "[LMasterTree$Entry;" "java/lang/Object") ∈ lw_tbl := lw_at lw_m16 120 rfl
theorem q3801 : (Jvm.Cond.castable "[[I" "java/lang/Object") ∈ lw_tbl := lw_at lw_m16 121 rfl
theorem q3802 : (Jvm.Cond.castable "[I" "java/lang/Object") ∈ lw_tbl := lw_at lw_m16 122 rfl
theorem q3803 : (Jvm.Cond.castable "[J" "java/lang/Object") ∈ lw_tbl := lw_at lw_m16 123 rfl
theorem q3804 : (Jvm.Cond.castable "[Ljava/lang/Object;" "java/lang/Object") ∈ lw_tbl := lw_at lw_m16 124 rfl
theorem q3805 : (Jvm.Cond.castable "[B" "java/lang/Object") ∈ lw_tbl := lw_at lw_m16 125 rfl
theorem q3806 : (Jvm.Cond.castable "[Z" "java/lang/Object") ∈ lw_tbl := lw_at lw_m16 126 rfl
theorem q3807 : (Jvm.Cond.fieldLink "java/lang/Enum" (7 : Nat) "java/lang/Enum" "ordinal" "I") ∈ lw_all := lw_g (lw_at lw_m16 127 rfl) rfl
def fwL : List (String × MethodName × MethodName) := [("java/util/ArrayList", ⟨"java/util/List", "add", "(Ljava/lang/Object;)Z"⟩, ⟨"java/util/ArrayList", "add", "(Ljava/lang/Object;)Z"⟩), ("java/util/ArrayList", ⟨"java/util/List", "size", "()I"⟩, ⟨"java/util/ArrayList", "size", "()I"⟩), ("java/util/ArrayList", ⟨"java/util/List", "clear", "()V"⟩, ⟨"java/util/ArrayList", "clear", "()V"⟩), ("java/util/ArrayList", ⟨"java/util/List", "get", "(I)Ljava/lang/Object;"⟩, ⟨"java/util/ArrayList", "get", "(I)Ljava/lang/Object;"⟩), ("java/util/TreeMap$AscendingSubMap$AscendingEntrySetView", ⟨"java/util/Set", "iterator", "()Ljava/util/Iterator;"⟩, ⟨"java/util/TreeMap$AscendingSubMap$AscendingEntrySetView", "iterator", "()Ljava/util/Iterator;"⟩), ("MasterTree$Change", ⟨"java/lang/Comparable", "compareTo", "(Ljava/lang/Object;)I"⟩, ⟨"MasterTree$Change", "compareTo", "(Ljava/lang/Object;)I"⟩), ("java/lang/Integer", ⟨"java/lang/Comparable", "compareTo", "(Ljava/lang/Object;)I"⟩, ⟨"java/lang/Integer", "compareTo", "(Ljava/lang/Object;)I"⟩), ("java/lang/Long", ⟨"java/lang/Comparable", "compareTo", "(Ljava/lang/Object;)I"⟩, ⟨"java/lang/Long", "compareTo", "(Ljava/lang/Object;)I"⟩), ("java/lang/String", ⟨"java/lang/Comparable", "compareTo", "(Ljava/lang/Object;)I"⟩, ⟨"java/lang/String", "compareTo", "(Ljava/lang/Object;)I"⟩), ("java/lang/StringBuilder", ⟨"java/lang/Comparable", "compareTo", "(Ljava/lang/Object;)I"⟩, ⟨"java/lang/StringBuilder", "compareTo", "(Ljava/lang/Object;)I"⟩), ("java/util/TreeMap$EntrySet", ⟨"java/util/Set", "iterator", "()Ljava/util/Iterator;"⟩, ⟨"java/util/TreeMap$EntrySet", "iterator", "()Ljava/util/Iterator;"⟩), ("java/util/TreeMap$KeySet", ⟨"java/util/Set", "iterator", "()Ljava/util/Iterator;"⟩, ⟨"java/util/TreeMap$KeySet", "iterator", "()Ljava/util/Iterator;"⟩), ("java/util/AbstractMap$2$1", ⟨"java/util/Iterator", "hasNext", "()Z"⟩, ⟨"java/util/AbstractMap$2$1", "hasNext", "()Z"⟩), ("java/util/ArrayList$Itr", ⟨"java/util/Iterator", "hasNext", "()Z"⟩, ⟨"java/util/ArrayList$Itr", "hasNext", "()Z"⟩), ("java/util/TreeMap$EntryIterator", ⟨"java/util/Iterator", "hasNext", "()Z"⟩, ⟨"java/util/TreeMap$PrivateEntryIterator", "hasNext", "()Z"⟩), ("java/util/TreeMap$KeyIterator", ⟨"java/util/Iterator", "hasNext", "()Z"⟩, ⟨"java/util/TreeMap$PrivateEntryIterator", "hasNext", "()Z"⟩), ("java/util/TreeMap$NavigableSubMap$SubMapEntryIterator", ⟨"java/util/Iterator", "hasNext", "()Z"⟩, ⟨"java/util/TreeMap$NavigableSubMap$SubMapIterator", "hasNext", "()Z"⟩), ("java/util/TreeMap$NavigableSubMap$SubMapKeyIterator", ⟨"java/util/Iterator", "hasNext", "()Z"⟩, ⟨"java/util/TreeMap$NavigableSubMap$SubMapIterator", "hasNext", "()Z"⟩), ("java/util/AbstractMap$2$1", ⟨"java/util/Iterator", "next", "()Ljava/lang/Object;"⟩, ⟨"java/util/AbstractMap$2$1", "next", "()Ljava/lang/Object;"⟩), ("java/util/ArrayList$Itr", ⟨"java/util/Iterator", "next", "()Ljava/lang/Object;"⟩, ⟨"java/util/ArrayList$Itr", "next", "()Ljava/lang/Object;"⟩), ("java/util/TreeMap$EntryIterator", ⟨"java/util/Iterator", "next", "()Ljava/lang/Object;"⟩, ⟨"java/util/TreeMap$EntryIterator", "next", "()Ljava/lang/Object;"⟩), ("java/util/TreeMap$KeyIterator", ⟨"java/util/Iterator", "next", "()Ljava/lang/Object;"⟩, ⟨"java/util/TreeMap$KeyIterator", "next", "()Ljava/lang/Object;"⟩), ("java/util/TreeMap$NavigableSubMap$SubMapEntryIterator", ⟨"java/util/Iterator", "next", "()Ljava/lang/Object;"⟩, ⟨"java/util/TreeMap$NavigableSubMap$SubMapEntryIterator", "next", "()Ljava/lang/Object;"⟩), ("java/util/TreeMap$NavigableSubMap$SubMapKeyIterator", ⟨"java/util/Iterator", "next", "()Ljava/lang/Object;"⟩, ⟨"java/util/TreeMap$NavigableSubMap$SubMapKeyIterator", "next", "()Ljava/lang/Object;"⟩), ("java/util/TreeMap$Entry", ⟨"java/util/Map$Entry", "getValue", "()Ljava/lang/Object;"⟩, ⟨"java/util/TreeMap$Entry", "getValue", "()Ljava/lang/Object;"⟩), ("java/util/TreeMap$Entry", ⟨"java/util/Map$Entry", "getKey", "()Ljava/lang/Object;"⟩, ⟨"java/util/TreeMap$Entry", "getKey", "()Ljava/lang/Object;"⟩), ("java/util/ArrayList", ⟨"java/util/List", "isEmpty", "()Z"⟩, ⟨"java/util/ArrayList", "isEmpty", "()Z"⟩), ("java/util/ArrayList", ⟨"java/util/List", "iterator", "()Ljava/util/Iterator;"⟩, ⟨"java/util/ArrayList", "iterator", "()Ljava/util/Iterator;"⟩), ("java/util/ArrayList", ⟨"java/util/List", "add", "(ILjava/lang/Object;)V"⟩, ⟨"java/util/ArrayList", "add", "(ILjava/lang/Object;)V"⟩), ("java/util/TreeMap", ⟨"java/util/Map", "clear", "()V"⟩, ⟨"java/util/TreeMap", "clear", "()V"⟩), ("java/util/TreeMap$AscendingSubMap", ⟨"java/util/Map", "clear", "()V"⟩, ⟨"java/util/AbstractMap", "clear", "()V"⟩), ("java/util/TreeMap$AscendingSubMap$AscendingEntrySetView", ⟨"java/util/Set", "clear", "()V"⟩, ⟨"java/util/AbstractCollection", "clear", "()V"⟩), ("java/util/AbstractMap$2$1", ⟨"java/util/Iterator", "remove", "()V"⟩, ⟨"java/util/AbstractMap$2$1", "remove", "()V"⟩), ("java/util/ArrayList$Itr", ⟨"java/util/Iterator", "remove", "()V"⟩, ⟨"java/util/ArrayList$Itr", "remove", "()V"⟩), ("java/util/TreeMap$EntryIterator", ⟨"java/util/Iterator", "remove", "()V"⟩, ⟨"java/util/TreeMap$PrivateEntryIterator", "remove", "()V"⟩), ("java/util/TreeMap$KeyIterator", ⟨"java/util/Iterator", "remove", "()V"⟩, ⟨"java/util/TreeMap$PrivateEntryIterator", "remove", "()V"⟩), ("java/util/TreeMap$NavigableSubMap$SubMapEntryIterator", ⟨"java/util/Iterator", "remove", "()V"⟩, ⟨"java/util/TreeMap$NavigableSubMap$SubMapEntryIterator", "remove", "()V"⟩), ("java/util/TreeMap$NavigableSubMap$SubMapKeyIterator", ⟨"java/util/Iterator", "remove", "()V"⟩, ⟨"java/util/TreeMap$NavigableSubMap$SubMapKeyIterator", "remove", "()V"⟩), ("java/util/TreeMap$EntrySet", ⟨"java/util/Set", "clear", "()V"⟩, ⟨"java/util/TreeMap$EntrySet", "clear", "()V"⟩), ("java/util/TreeMap$KeySet", ⟨"java/util/Set", "clear", "()V"⟩, ⟨"java/util/TreeMap$KeySet", "clear", "()V"⟩), ("java/util/TreeMap", ⟨"java/util/Map", "isEmpty", "()Z"⟩, ⟨"java/util/AbstractMap", "isEmpty", "()Z"⟩), ("java/util/TreeMap$AscendingSubMap$AscendingEntrySetView", ⟨"java/util/Set", "size", "()I"⟩, ⟨"java/util/TreeMap$NavigableSubMap$EntrySetView", "size", "()I"⟩), ("java/util/TreeMap$EntrySet", ⟨"java/util/Set", "size", "()I"⟩, ⟨"java/util/TreeMap$EntrySet", "size", "()I"⟩), ("java/util/TreeMap$KeySet", ⟨"java/util/Set", "size", "()I"⟩, ⟨"java/util/TreeMap$KeySet", "size", "()I"⟩), ("java/util/TreeMap", ⟨"java/util/Map", "size", "()I"⟩, ⟨"java/util/TreeMap", "size", "()I"⟩), ("java/util/TreeMap$AscendingSubMap", ⟨"java/util/Map", "size", "()I"⟩, ⟨"java/util/TreeMap$NavigableSubMap", "size", "()I"⟩), ("java/util/TreeMap$AscendingSubMap", ⟨"java/util/Map", "isEmpty", "()Z"⟩, ⟨"java/util/TreeMap$NavigableSubMap", "isEmpty", "()Z"⟩), ("java/util/TreeMap$AscendingSubMap$AscendingEntrySetView", ⟨"java/util/Set", "isEmpty", "()Z"⟩, ⟨"java/util/TreeMap$NavigableSubMap$EntrySetView", "isEmpty", "()Z"⟩), ("java/util/TreeMap$EntrySet", ⟨"java/util/Set", "isEmpty", "()Z"⟩, ⟨"java/util/AbstractCollection", "isEmpty", "()Z"⟩), ("java/util/TreeMap$KeySet", ⟨"java/util/Set", "isEmpty", "()Z"⟩, ⟨"java/util/TreeMap$KeySet", "isEmpty", "()Z"⟩), ("java/util/ArrayList", ⟨"java/util/List", "remove", "(I)Ljava/lang/Object;"⟩, ⟨"java/util/ArrayList", "remove", "(I)Ljava/lang/Object;"⟩), ("java/util/TreeMap", ⟨"java/util/SortedMap", "values", "()Ljava/util/Collection;"⟩, ⟨"java/util/TreeMap", "values", "()Ljava/util/Collection;"⟩), ("java/util/TreeMap$AscendingSubMap", ⟨"java/util/SortedMap", "values", "()Ljava/util/Collection;"⟩, ⟨"java/util/AbstractMap", "values", "()Ljava/util/Collection;"⟩), ("java/util/AbstractMap$2", ⟨"java/util/Collection", "iterator", "()Ljava/util/Iterator;"⟩, ⟨"java/util/AbstractMap$2", "iterator", "()Ljava/util/Iterator;"⟩), ("java/util/ArrayList", ⟨"java/util/Collection", "iterator", "()Ljava/util/Iterator;"⟩, ⟨"java/util/ArrayList", "iterator", "()Ljava/util/Iterator;"⟩), ("java/util/TreeMap$AscendingSubMap$AscendingEntrySetView", ⟨"java/util/Collection", "iterator", "()Ljava/util/Iterator;"⟩, ⟨"java/util/TreeMap$AscendingSubMap$AscendingEntrySetView", "iterator", "()Ljava/util/Iterator;"⟩), ("java/util/TreeMap$EntrySet", ⟨"java/util/Collection", "iterator", "()Ljava/util/Iterator;"⟩, ⟨"java/util/TreeMap$EntrySet", "iterator", "()Ljava/util/Iterator;"⟩), ("java/util/TreeMap$KeySet", ⟨"java/util/Collection", "iterator", "()Ljava/util/Iterator;"⟩, ⟨"java/util/TreeMap$KeySet", "iterator", "()Ljava/util/Iterator;"⟩), ("java/util/TreeMap", ⟨"java/util/Map", "keySet", "()Ljava/util/Set;"⟩, ⟨"java/util/TreeMap", "keySet", "()Ljava/util/Set;"⟩), ("java/util/TreeMap$AscendingSubMap", ⟨"java/util/Map", "keySet", "()Ljava/util/Set;"⟩, ⟨"java/util/TreeMap$NavigableSubMap", "keySet", "()Ljava/util/Set;"⟩), ("java/util/TreeMap", ⟨"java/util/Map", "values", "()Ljava/util/Collection;"⟩, ⟨"java/util/TreeMap", "values", "()Ljava/util/Collection;"⟩), ("java/util/TreeMap$AscendingSubMap", ⟨"java/util/Map", "values", "()Ljava/util/Collection;"⟩, ⟨"java/util/AbstractMap", "values", "()Ljava/util/Collection;"⟩), ("java/util/TreeMap", ⟨"java/util/Map", "get", "(Ljava/lang/Object;)Ljava/lang/Object;"⟩, ⟨"java/util/TreeMap", "get", "(Ljava/lang/Object;)Ljava/lang/Object;"⟩), ("java/util/TreeMap$AscendingSubMap", ⟨"java/util/Map", "get", "(Ljava/lang/Object;)Ljava/lang/Object;"⟩, ⟨"java/util/TreeMap$NavigableSubMap", "get", "(Ljava/lang/Object;)Ljava/lang/Object;"⟩), ("java/util/TreeMap", ⟨"java/util/Map", "containsKey", "(Ljava/lang/Object;)Z"⟩, ⟨"java/util/TreeMap", "containsKey", "(Ljava/lang/Object;)Z"⟩), ("java/util/TreeMap$AscendingSubMap", ⟨"java/util/Map", "containsKey", "(Ljava/lang/Object;)Z"⟩, ⟨"java/util/TreeMap$NavigableSubMap", "containsKey", "(Ljava/lang/Object;)Z"⟩)]
theorem fwL_x : ∀ q ∈ fwL, q.2.1.cls ≠ "java/lang/invoke/MethodHandle" ∧ q.2.1.cls ≠ "java/lang/invoke/VarHandle" := by decide +kernel
theorem fwL_at {U : State} {A : Array Value} (h : ∀ w ∈ lw_tbl, w.before A U = true) : ∀ q ∈ fwL, va_Fw q.1 q.2.1 q.2.2 U := by
  unfold fwL
  exact List.forall_mem_cons.mpr ⟨va_Fw.of (h _ q348) (h _ q347) (h _ q353) (h _ q351) (h _ q349), List.forall_mem_cons.mpr ⟨va_Fw.of (h _ q482) (h _ q481) (h _ q486) (h _ q484) (h _ q349), List.forall_mem_cons.mpr ⟨va_Fw.of (h _ q491) (h _ q490) (h _ q495) (h _ q493) (h _ q349), List.forall_mem_cons.mpr ⟨va_Fw.of (h _ q890) (h _ q889) (h _ q894) (h _ q892) (h _ q349), List.forall_mem_cons.mpr ⟨va_Fw.of (h _ q1015) (h _ q1014) (h _ q1020) (h _ q1018) (h _ q1016), List.forall_mem_cons.mpr ⟨va_Fw.of (h _ q1046) (h _ q1045) (h _ q1051) (h _ q1049) (h _ q1047), List.forall_mem_cons.mpr ⟨va_Fw.of (h _ q1046) (h _ q1045) (h _ q1123) (h _ q1121) (h _ q1119), List.forall_mem_cons.mpr ⟨va_Fw.of (h _ q1046) (h _ q1045) (h _ q1135) (h _ q1133) (h _ q1131), List.forall_mem_cons.mpr ⟨va_Fw.of (h _ q1046) (h _ q1045) (h _ q1149) (h _ q1147) (h _ q1145), List.forall_mem_cons.mpr ⟨va_Fw.of (h _ q1046) (h _ q1045) (h _ q1296) (h _ q1294) (h _ q1292), List.forall_mem_cons.mpr ⟨va_Fw.of (h _ q1015) (h _ q1014) (h _ q1373) (h _ q1371) (h _ q1369), List.forall_mem_cons.mpr ⟨va_Fw.of (h _ q1015) (h _ q1014) (h _ q1402) (h _ q1400) (h _ q1398), List.forall_mem_cons.mpr ⟨va_Fw.of (h _ q1448) (h _ q1447) (h _ q1453) (h _ q1451) (h _ q1449), List.forall_mem_cons.mpr ⟨va_Fw.of (h _ q1448) (h _ q1447) (h _ q1461) (h _ q1459) (h _ q1457), List.forall_mem_cons.mpr ⟨va_Fw.of (h _ q1448) (h _ q1447) (h _ q1467) (h _ q1465) (h _ q1463), List.forall_mem_cons.mpr ⟨va_Fw.of (h _ q1448) (h _ q1447) (h _ q1467) (h _ q1471) (h _ q1469), List.forall_mem_cons.mpr ⟨va_Fw.of (h _ q1448) (h _ q1447) (h _ q1476) (h _ q1474) (h _ q1472), List.forall_mem_cons.mpr ⟨va_Fw.of (h _ q1448) (h _ q1447) (h _ q1476) (h _ q1480) (h _ q1478), List.forall_mem_cons.mpr ⟨va_Fw.of (h _ q1487) (h _ q1486) (h _ q1491) (h _ q1489) (h _ q1449), List.forall_mem_cons.mpr ⟨va_Fw.of (h _ q1487) (h _ q1486) (h _ q1498) (h _ q1496) (h _ q1457), List.forall_mem_cons.mpr ⟨va_Fw.of (h _ q1487) (h _ q1486) (h _ q1507) (h _ q1505) (h _ q1463), List.forall_mem_cons.mpr ⟨va_Fw.of (h _ q1487) (h _ q1486) (h _ q1525) (h _ q1523) (h _ q1469), List.forall_mem_cons.mpr ⟨va_Fw.of (h _ q1487) (h _ q1486) (h _ q1533) (h _ q1531) (h _ q1472), List.forall_mem_cons.mpr ⟨va_Fw.of (h _ q1487) (h _ q1486) (h _ q1549) (h _ q1547) (h _ q1478), List.forall_mem_cons.mpr ⟨va_Fw.of (h _ q1566) (h _ q1565) (h _ q1571) (h _ q1569) (h _ q1567), List.forall_mem_cons.mpr ⟨va_Fw.of (h _ q1577) (h _ q1576) (h _ q1581) (h _ q1579) (h _ q1567), List.forall_mem_cons.mpr ⟨va_Fw.of (h _ q1598) (h _ q1597) (h _ q1602) (h _ q1600) (h _ q349), List.forall_mem_cons.mpr ⟨va_Fw.of (h _ q1690) (h _ q1689) (h _ q1694) (h _ q1692) (h _ q349), List.forall_mem_cons.mpr ⟨va_Fw.of (h _ q1800) (h _ q1799) (h _ q1804) (h _ q1802) (h _ q349), List.forall_mem_cons.mpr ⟨va_Fw.of (h _ q2051) (h _ q2050) (h _ q2055) (h _ q2054) (h _ q2052), List.forall_mem_cons.mpr ⟨va_Fw.of (h _ q2051) (h _ q2050) (h _ q2060) (h _ q2058) (h _ q2056), List.forall_mem_cons.mpr ⟨va_Fw.of (h _ q2094) (h _ q2093) (h _ q2098) (h _ q2096) (h _ q1016), List.forall_mem_cons.mpr ⟨va_Fw.of (h _ q2148) (h _ q2147) (h _ q2152) (h _ q2150) (h _ q1449), List.forall_mem_cons.mpr ⟨va_Fw.of (h _ q2148) (h _ q2147) (h _ q2159) (h _ q2157) (h _ q1457), List.forall_mem_cons.mpr ⟨va_Fw.of (h _ q2148) (h _ q2147) (h _ q2196) (h _ q2194) (h _ q1463), List.forall_mem_cons.mpr ⟨va_Fw.of (h _ q2148) (h _ q2147) (h _ q2196) (h _ q2210) (h _ q1469), List.forall_mem_cons.mpr ⟨va_Fw.of (h _ q2148) (h _ q2147) (h _ q2214) (h _ q2212) (h _ q1472), List.forall_mem_cons.mpr ⟨va_Fw.of (h _ q2148) (h _ q2147) (h _ q2228) (h _ q2226) (h _ q1478), List.forall_mem_cons.mpr ⟨va_Fw.of (h _ q2094) (h _ q2093) (h _ q2238) (h _ q2236) (h _ q1369), List.forall_mem_cons.mpr ⟨va_Fw.of (h _ q2094) (h _ q2093) (h _ q2244) (h _ q2242) (h _ q1398), List.forall_mem_cons.mpr ⟨va_Fw.of (h _ q2319) (h _ q2318) (h _ q2323) (h _ q2321) (h _ q2052), List.forall_mem_cons.mpr ⟨va_Fw.of (h _ q2341) (h _ q2340) (h _ q2345) (h _ q2343) (h _ q1016), List.forall_mem_cons.mpr ⟨va_Fw.of (h _ q2341) (h _ q2340) (h _ q2358) (h _ q2356) (h _ q1369), List.forall_mem_cons.mpr ⟨va_Fw.of (h _ q2341) (h _ q2340) (h _ q2364) (h _ q2362) (h _ q1398), List.forall_mem_cons.mpr ⟨va_Fw.of (h _ q2368) (h _ q2432) (h _ q2371) (h _ q2370) (h _ q2052), List.forall_mem_cons.mpr ⟨va_Fw.of (h _ q2368) (h _ q2432) (h _ q2374) (h _ q2373) (h _ q2056), List.forall_mem_cons.mpr ⟨va_Fw.of (h _ q2319) (h _ q2318) (h _ q2379) (h _ q2377) (h _ q2056), List.forall_mem_cons.mpr ⟨va_Fw.of (h _ q2388) (h _ q2387) (h _ q2392) (h _ q2390) (h _ q1016), List.forall_mem_cons.mpr ⟨va_Fw.of (h _ q2388) (h _ q2387) (h _ q2399) (h _ q2397) (h _ q1369), List.forall_mem_cons.mpr ⟨va_Fw.of (h _ q2388) (h _ q2387) (h _ q2419) (h _ q2417) (h _ q1398), List.forall_mem_cons.mpr ⟨va_Fw.of (h _ q2629) (h _ q2628) (h _ q2632) (h _ q2631) (h _ q349), List.forall_mem_cons.mpr ⟨va_Fw.of (h _ q2709) (h _ q2708) (h _ q2714) (h _ q2712) (h _ q2710), List.forall_mem_cons.mpr ⟨va_Fw.of (h _ q2709) (h _ q2708) (h _ q2730) (h _ q2728) (h _ q2726), List.forall_mem_cons.mpr ⟨va_Fw.of (h _ q2746) (h _ q2745) (h _ q2750) (h _ q2749) (h _ q2747), List.forall_mem_cons.mpr ⟨va_Fw.of (h _ q2746) (h _ q2745) (h _ q1694) (h _ q1692) (h _ q2751), List.forall_mem_cons.mpr ⟨va_Fw.of (h _ q2746) (h _ q2745) (h _ q1020) (h _ q1018) (h _ q2753), List.forall_mem_cons.mpr ⟨va_Fw.of (h _ q2746) (h _ q2745) (h _ q1373) (h _ q1371) (h _ q2755), List.forall_mem_cons.mpr ⟨va_Fw.of (h _ q2746) (h _ q2745) (h _ q1402) (h _ q1400) (h _ q2757), List.forall_mem_cons.mpr ⟨va_Fw.of (h _ q2808) (h _ q2807) (h _ q2811) (h _ q2810) (h _ q2052), List.forall_mem_cons.mpr ⟨va_Fw.of (h _ q2808) (h _ q2807) (h _ q2815) (h _ q2813) (h _ q2056), List.forall_mem_cons.mpr ⟨va_Fw.of (h _ q2961) (h _ q2960) (h _ q2714) (h _ q2712) (h _ q2052), List.forall_mem_cons.mpr ⟨va_Fw.of (h _ q2961) (h _ q2960) (h _ q2730) (h _ q2728) (h _ q2056), List.forall_mem_cons.mpr ⟨va_Fw.of (h _ q3062) (h _ q3061) (h _ q3065) (h _ q3064) (h _ q2052), List.forall_mem_cons.mpr ⟨va_Fw.of (h _ q3062) (h _ q3061) (h _ q3069) (h _ q3067) (h _ q2056), List.forall_mem_cons.mpr ⟨va_Fw.of (h _ q3085) (h _ q3084) (h _ q3088) (h _ q3087) (h _ q2052), List.forall_mem_cons.mpr ⟨va_Fw.of (h _ q3085) (h _ q3084) (h _ q3092) (h _ q3090) (h _ q2056), fun _ h => absurd h List.not_mem_nil⟩⟩⟩⟩⟩⟩⟩⟩⟩⟩⟩⟩⟩⟩⟩⟩⟩⟩⟩⟩⟩⟩⟩⟩⟩⟩⟩⟩⟩⟩⟩⟩⟩⟩⟩⟩⟩⟩⟩⟩⟩⟩⟩⟩⟩⟩⟩⟩⟩⟩⟩⟩⟩⟩⟩⟩⟩⟩⟩⟩⟩⟩⟩⟩⟩⟩
def skL : List (String × Nat × String × Nat) := [("MasterTree", 163, "there are too many attributes", 0), ("MasterTree", 145, "class", 1), ("MasterTree", 89, "no ", 2), ("MasterTree", 95, " ", 3), ("java/util/Arrays", 337, " > ", 4), ("MasterTree", 176, "there is no such attribute", 5), ("MasterTree", 178, "there are too many classes", 6), ("MasterTree", 107, "master", 7), ("MasterTree", 187, "user", 8), ("MasterTree", 141, "attribute", 9), ("MasterTree", 151, " is not from ", 10), ("MasterTree", 153, " to ", 11), ("MasterTree", 199, "too many values are drafted", 12), ("MasterTree", 121, "no entry ", 13), ("MasterTree", 123, " at the master ", 14), ("MasterTree", 207, "there are too many changes", 15), ("MasterTree", 213, "the user may not write", 16), ("MasterTree", 260, "the entry cannot be added", 17), ("java/util/ArrayList", 201, "Index: ", 18), ("java/util/ArrayList", 203, ", Size: ", 19), ("java/util/TreeMap$NavigableSubMap", 15, "fromKey > toKey", 20), ("MasterTree", 131, "the root cannot be changed", 21), ("MasterTree", 291, "the value cannot be added", 22), ("MasterTree", 300, "the value cannot be removed", 23), ("MasterTree", 305, "the attribute is not allowed", 24), ("MasterTree", 313, "there is such a name", 25), ("MasterTree", 327, "the entry cannot be moved there", 26), ("MasterTree", 332, "there are entries beneath it", 27), ("MasterTree", 347, "an alias tells another entry", 28), ("MasterTree", 355, "subject", 29), ("MasterTree", 357, "scope", 30), ("MasterTree", 359, "right", 31), ("MasterTree", 376, "both are the master ", 32), ("MasterTree", 395, "the draft has too many filters", 33), ("MasterTree", 411, "the draft has too few filters, or too many parts", 34), ("MasterTree", 424, "the draft has no filter, or too many parts", 35), ("MasterTree", 431, "the draft has not just one filter", 36), ("MasterTree", 467, "entry that was found", 37), ("MasterTree", 156, "the index ", 38), ("MasterTree", 158, " is below 0", 39), ("MasterTree", 499, "sort", 40)]
